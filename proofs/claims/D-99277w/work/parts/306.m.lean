/-! printed: functions and walks -/
set_option maxRecDepth 100000
set_option linter.unusedVariables false
/- C:X21_step -/
def fcX21_step : Nat → Nat → so_St → Option ((Nat ⊕ Nat) × so_St)
  | 0 => fun _ _ => none
  | n + 1 => fX21_step (fcX21_step n)
theorem wcX21_step : ∀ (n : Nat), ∀ (a0 : Nat) (S : so_St), a0 % 64 ∈ [13] → ∀ {res : Nat ⊕ Nat} {S' : so_St}, fcX21_step n a0 S = some (res, S') → jx_Sp (8 * n) yX21_step (ws_ yX21_step cX21_step 5 (Option.some (Jvm.ClassFile.FieldType.object "TunedHouses$Step"))) [.ref a0] S (so_or res) S' := by
  intro n
  induction n with
  | zero =>
    intros
    rename_i hf
    exact so_no hf
  | succ n ih =>
    exact fun a0 S k0 _ _ hf => wX21_step ih a0 S k0 hf


/- X21_reads -/
abbrev kX21_reads : jx_K := (cX21_reads, 2, RX21, 97, (Option.some (Jvm.ClassFile.FieldType.object "java/util/ArrayList")), "reads", [])
def LX21_reads_14 (f0 : Nat) (f1 : Nat) : Nat → so_St → Option ((Nat ⊕ Nat) × so_St)
  | 0, _ => none
  | n + 1, S8 =>
    if (so_I S8 f0 1) ≤ (so_I S8 f0 2) then
    (some (.inl f1, S8))
    else
    (so_b3 (fcX21_step 12 f0 S8) (fun r10 S11 =>
    so_gd (decide (r10 % 64 ∈ [14, 15, 16, 17, 18])) fun _ =>
    so_b2 (fJ2_add f1 r10 S11) fun r17 S18 =>
    so_b2 (fX9_sign f0 S18) fun r20 S21 =>
    LX21_reads_14 f0 f1 n S21)
    (fun x12 S13 =>
    so_gd (decide (x12 % 64 ∈ [3])) fun _ =>
    some (.inr x12, S13)))
set_option maxHeartbeats 4000000 in
set_option maxRecDepth 100000 in
theorem wX21_reads_14 {res : Nat ⊕ Nat} {S' : so_St} {S0 : so_St}   (f0 : Nat) (f1 : Nat)   (k_f0 : f0 % 64 ∈ [13]) (k_f1 : f1 % 64 ∈ [24]) : ∀ (n : Nat) (S8 : so_St), LX21_reads_14 f0 f1 n S8 = some (res, S') → jg_ (S0, S', so_or res) kX21_reads 14 [(0, .ref f0), (1, .ref f1)] [] S8 := by
  intro n
  induction n with
  | zero =>
    intro S8 hf
    exact so_no hf
  | succ n ih =>
    intro S8 hf
    rw [LX21_reads_14] at hf
    refine jr_aload_n dX21_reads_14 rfl rfl jv_rr ?_
    refine jr_getI fl_X21_24_13 k_f0 (so_n26 rfl) dX21_reads_15 ?_
    refine jr_aload_n dX21_reads_18 rfl rfl jv_rr ?_
    refine jr_getI fl_X21_28_13 k_f0 (so_n26 rfl) dX21_reads_19 ?_
    refine jr_icmp_ge (tgt := 42) dX21_reads_22 rfl (fun c9 => ?_) (fun c9 => ?_)
    · have hf := so_t c9 hf
      refine jr_aload_n dX21_reads_42 rfl rfl jv_rr ?_
      obtain ⟨rfl, rfl⟩ := so_e2 hf
      exact jr_aret rfl (Or.inl ⟨_, rfl⟩) jv_rr dX21_reads_43
    · have hf := so_f c9 hf
      refine jr_aload_n dX21_reads_25 rfl rfl jv_rr ?_
      refine jr_aload_n dX21_reads_26 rfl rfl jv_rr ?_
      rcases so_b3E hf with ⟨r10, S11, h14, hf⟩ | ⟨x12, S13, h14, hf⟩
      · obtain ⟨g_r10, hf⟩ := so_gdE hf
        refine jr_callM (st := [.ref f1]) lk_X21_31_13 (wcX21_step 12 f0 S8 k_f0 h14) k_f0 rfl rfl rfl (so_le rfl) (so_le rfl) dX21_reads_27 ?_
        obtain ⟨r17, S18, h16, hf⟩ := so_b2E hf
        refine jr_callM (st := []) lk_X21_35_24 (wJ2_add f1 r10 S11 k_f1 (so_ms (of_decide_eq_true g_r10) rfl) h16) k_f1 rfl rfl rfl (so_le rfl) (so_le rfl) dX21_reads_30 ?_
        refine jr_pop dX21_reads_33 rfl ?_
        refine jr_aload_n dX21_reads_34 rfl rfl jv_rr ?_
        obtain ⟨r20, S21, h19, hf⟩ := so_b2E hf
        refine jr_callM (st := []) lk_X21_20_13 (wX9_sign f0 S18 (so_ms k_f0 rfl) h19) k_f0 rfl rfl rfl (so_le rfl) (so_le rfl) dX21_reads_35 ?_
        refine jr_pop dX21_reads_38 rfl ?_
        refine jr_goto (tgt := 14) dX21_reads_39 rfl ?_
        exact ih S21 hf
      · refine jr_callMX (st := [.ref f1]) lk_X21_31_13 (wcX21_step 12 f0 S8 k_f0 h14) k_f0 rfl rfl rfl (so_le rfl) (so_le rfl) dX21_reads_27 ?_
        obtain ⟨g15, hf⟩ := so_gdE hf
        obtain ⟨rfl, rfl⟩ := so_e2 hf
        exact jr_out (so_l29 (of_decide_eq_true g15) rfl).1 (so_l29 (of_decide_eq_true g15) rfl).2 rfl
def fX21_reads (a0 : Nat) (S : so_St) : Option ((Nat ⊕ Nat) × so_St) :=
  so_let (so_new S 24 0 3) fun S1 =>
  (fJ2_init (so_at S 24) (2 : Int32) S1).bind fun S4 =>
  so_b2 (fX9_sign a0 S4) fun r6 S7 =>
  LX21_reads_14 a0 (so_at S 24) so_N S7
set_option maxHeartbeats 4000000 in
set_option maxRecDepth 100000 in
theorem wX21_reads {res : Nat ⊕ Nat} {S' : so_St}  (a0 : Nat)  (S : so_St) (k_a0 : a0 % 64 ∈ [13]) (hf : fX21_reads a0 S = some (res, S')) : jx_Sp 97 yX21_reads (ws_ yX21_reads cX21_reads 2 (Option.some (Jvm.ClassFile.FieldType.object "java/util/ArrayList"))) [.ref a0] S (so_or res) S' := by
  refine jx_of (plainFor_of_name (by decide)) (so_le rfl) ?_
  show jg_ (S, S', so_or res) kX21_reads 0 [(0, .ref a0)] [] S
  unfold fX21_reads at hf
  refine jr_new nw_X21_15 dX21_reads_0 ?_
  refine so_let_e hf (fun S1 hf => ?_)
  refine jr_dup dX21_reads_3 rfl ?_
  refine jr_iconst dX21_reads_4 ic_2 ?_
  obtain ⟨S4, h2, hf⟩ := so_b hf
  refine jr_call (st := [.ref (so_at S 24)]) lk_X21_17 (wJ2_init (so_at S 24) (2 : Int32) S1 (so_atk rfl) h2) (jk_r1 (so_n63 (so_atk rfl) rfl)) rfl rfl (so_le rfl) (so_le rfl) dX21_reads_5 ?_
  refine jr_astore_n (lv' := [(0, .ref a0), (1, .ref (so_at S 24))]) dX21_reads_8 rfl (so_le rfl) jv_rr rfl ?_
  refine jr_aload_n dX21_reads_9 rfl rfl jv_rr ?_
  obtain ⟨r6, S7, h5, hf⟩ := so_b2E hf
  refine jr_callM (st := []) lk_X21_20_13 (wX9_sign a0 S4 (so_ms k_a0 rfl) h5) k_a0 rfl rfl rfl (so_le rfl) (so_le rfl) dX21_reads_10 ?_
  refine jr_pop dX21_reads_13 rfl ?_
  refine wX21_reads_14 a0 (so_at S 24) k_a0 (so_atk rfl) so_N S7 hf

/- X7_init -/
abbrev kX7_init : jx_K := (cX7_init, 2, RX7, 1, (Option.none : Option Jvm.ClassFile.FieldType), "<init>", [])
def fX7_init (a0 : Nat) (a1 : Nat) (S : so_St) : Option so_St :=
  so_let (so_sR S a0 10 (some a1)) fun S1 =>
  so_let (so_new S1 50 6 6) fun S2 =>
  so_let (so_sR S2 a0 0 (some (so_at S1 50))) fun S3 =>
  so_let (so_new S3 50 6 6) fun S4 =>
  so_let (so_sR S4 a0 1 (some (so_at S3 50))) fun S5 =>
  so_let (so_new S5 50 6 6) fun S6 =>
  so_let (so_sR S6 a0 2 (some (so_at S5 50))) fun S7 =>
  so_let (so_new S7 50 80 80) fun S8 =>
  so_let (so_sR S8 a0 3 (some (so_at S7 50))) fun S9 =>
  so_let (so_new S9 50 6 6) fun S10 =>
  so_let (so_sR S10 a0 4 (some (so_at S9 50))) fun S11 =>
  some S11
set_option maxHeartbeats 4000000 in
set_option maxRecDepth 100000 in
theorem wX7_init {S' : so_St}  (a0 : Nat) (a1 : Nat)  (S : so_St) (k_a0 : a0 % 64 ∈ [22]) (k_a1 : a1 % 64 ∈ [0]) (hf : fX7_init a0 a1 S = some S') : jx_Sp 1 yX7_init (ws_ yX7_init cX7_init 2 (Option.none : Option Jvm.ClassFile.FieldType)) [.ref a0, .ref a1] S (.inl none) S' := by
  refine jx_of (plainFor_of_name (by decide)) (so_le rfl) ?_
  show jg_ (S, S', .inl none) kX7_init 0 [(0, .ref a0), (1, .ref a1)] [] S
  unfold fX7_init at hf
  refine jr_aload_n dX7_init_0 rfl rfl jv_rr ?_
  refine jr_aload_n dX7_init_1 rfl rfl jv_rr ?_
  refine jr_putR (r := (some a1)) rfl fp_X7_3_22 k_a0 (so_n26 rfl) (fun _ => rfl) rfl dX7_init_2 ?_
  refine so_let_e hf (fun S1 hf => ?_)
  refine jr_aload_n dX7_init_5 rfl rfl jv_rr ?_
  refine jr_objInit (so_n63 k_a0 rfl) q594 q155 q156 (so_le rfl) (so_le rfl) dX7_init_6 ?_
  refine jr_aload_n dX7_init_9 rfl rfl jv_rr ?_
  refine jr_bipush dX7_init_10 bp_6 ?_
  refine jr_newi q251 (by decide) (by decide) dX7_init_12 ?_
  refine so_let_e hf (fun S2 hf => ?_)
  refine jr_putR (r := (some (so_at S1 50))) rfl fp_X7_15_22 k_a0 (so_n26 rfl) (fun _ => rfl) rfl dX7_init_14 ?_
  refine so_let_e hf (fun S3 hf => ?_)
  refine jr_aload_n dX7_init_17 rfl rfl jv_rr ?_
  refine jr_bipush dX7_init_18 bp_6 ?_
  refine jr_newi q251 (by decide) (by decide) dX7_init_20 ?_
  refine so_let_e hf (fun S4 hf => ?_)
  refine jr_putR (r := (some (so_at S3 50))) rfl fp_X7_19_22 k_a0 (so_n26 rfl) (fun _ => rfl) rfl dX7_init_22 ?_
  refine so_let_e hf (fun S5 hf => ?_)
  refine jr_aload_n dX7_init_25 rfl rfl jv_rr ?_
  refine jr_bipush dX7_init_26 bp_6 ?_
  refine jr_newi q251 (by decide) (by decide) dX7_init_28 ?_
  refine so_let_e hf (fun S6 hf => ?_)
  refine jr_putR (r := (some (so_at S5 50))) rfl fp_X7_22_22 k_a0 (so_n26 rfl) (fun _ => rfl) rfl dX7_init_30 ?_
  refine so_let_e hf (fun S7 hf => ?_)
  refine jr_aload_n dX7_init_33 rfl rfl jv_rr ?_
  refine jr_bipush dX7_init_34 bp_80 ?_
  refine jr_newi q251 (by decide) (by decide) dX7_init_36 ?_
  refine so_let_e hf (fun S8 hf => ?_)
  refine jr_putR (r := (some (so_at S7 50))) rfl fp_X7_25_22 k_a0 (so_n26 rfl) (fun _ => rfl) rfl dX7_init_38 ?_
  refine so_let_e hf (fun S9 hf => ?_)
  refine jr_aload_n dX7_init_41 rfl rfl jv_rr ?_
  refine jr_bipush dX7_init_42 bp_6 ?_
  refine jr_newi q251 (by decide) (by decide) dX7_init_44 ?_
  refine so_let_e hf (fun S10 hf => ?_)
  refine jr_putR (r := (some (so_at S9 50))) rfl fp_X7_28_22 k_a0 (so_n26 rfl) (fun _ => rfl) rfl dX7_init_46 ?_
  refine so_let_e hf (fun S11 hf => ?_)
  obtain rfl := so_e1 hf
  exact jr_vret rfl dX7_init_49

/- X7_becomes -/
abbrev kX7_becomes : jx_K := (cX7_becomes, 2, RX7, 1, (Option.some (Jvm.ClassFile.FieldType.object "TunedHouses$Terrace")), "becomes", [])
def fX7_becomes (a0 : Nat) (a1 : Nat) (S : so_St) : Option (Nat × so_St) :=
  (so_rk (so_R S a1 0) [50]).bind fun p1 =>
  (so_rk (so_R S a0 0) [50]).bind fun p3 =>
  so_gd (so_cp (0 : Int32) (0 : Int32) (6 : Int32) (so_l S p1) (so_l S p3)) fun _ =>
  so_let (so_cpI S p1 p3 (0 : Int32).toNatClampNeg (0 : Int32).toNatClampNeg (6 : Int32).toNatClampNeg) fun S6 =>
  (so_rk (so_R S6 a1 1) [50]).bind fun p7 =>
  (so_rk (so_R S6 a0 1) [50]).bind fun p9 =>
  so_gd (so_cp (0 : Int32) (0 : Int32) (6 : Int32) (so_l S6 p7) (so_l S6 p9)) fun _ =>
  so_let (so_cpI S6 p7 p9 (0 : Int32).toNatClampNeg (0 : Int32).toNatClampNeg (6 : Int32).toNatClampNeg) fun S12 =>
  (so_rk (so_R S12 a1 2) [50]).bind fun p13 =>
  (so_rk (so_R S12 a0 2) [50]).bind fun p15 =>
  so_gd (so_cp (0 : Int32) (0 : Int32) (6 : Int32) (so_l S12 p13) (so_l S12 p15)) fun _ =>
  so_let (so_cpI S12 p13 p15 (0 : Int32).toNatClampNeg (0 : Int32).toNatClampNeg (6 : Int32).toNatClampNeg) fun S18 =>
  (so_rk (so_R S18 a1 3) [50]).bind fun p19 =>
  (so_rk (so_R S18 a0 3) [50]).bind fun p21 =>
  so_gd (so_cp (0 : Int32) (0 : Int32) (80 : Int32) (so_l S18 p19) (so_l S18 p21)) fun _ =>
  so_let (so_cpI S18 p19 p21 (0 : Int32).toNatClampNeg (0 : Int32).toNatClampNeg (80 : Int32).toNatClampNeg) fun S24 =>
  so_let (so_sI S24 a0 5 (so_I S24 a1 5)) fun S25 =>
  so_let (so_sI S25 a0 6 (so_I S25 a1 6)) fun S26 =>
  some (a0, S26)
set_option maxHeartbeats 4000000 in
set_option maxRecDepth 100000 in
theorem wX7_becomes {res : Nat} {S' : so_St}  (a0 : Nat) (a1 : Nat)  (S : so_St) (k_a0 : a0 % 64 ∈ [22]) (k_a1 : a1 % 64 ∈ [22]) (hf : fX7_becomes a0 a1 S = some (res, S')) : jx_Sp 1 yX7_becomes (ws_ yX7_becomes cX7_becomes 2 (Option.some (Jvm.ClassFile.FieldType.object "TunedHouses$Terrace"))) [.ref a0, .ref a1] S (.inl (some (.ref res))) S' := by
  refine jx_of (plainFor_of_name (by decide)) (so_le rfl) ?_
  show jg_ (S, S', .inl (some (.ref res))) kX7_becomes 0 [(0, .ref a0), (1, .ref a1)] [] S
  unfold fX7_becomes at hf
  refine jr_aload_n dX7_becomes_0 rfl rfl jv_rr ?_
  refine jr_getR fl_X7_15_22 k_a1 (so_n26 rfl) dX7_becomes_1 ?_
  obtain ⟨p1, h2, hf⟩ := so_b hf
  obtain ⟨h2, k_p1⟩ := so_rk_s h2
  refine jr_rf h2 ?_
  refine jr_iconst dX7_becomes_4 ic_0 ?_
  refine jr_aload_n dX7_becomes_5 rfl rfl jv_rr ?_
  refine jr_getR fl_X7_15_22 k_a0 (so_n26 rfl) dX7_becomes_6 ?_
  obtain ⟨p3, h4, hf⟩ := so_b hf
  obtain ⟨h4, k_p3⟩ := so_rk_s h4
  refine jr_rf h4 ?_
  refine jr_iconst dX7_becomes_9 ic_0 ?_
  refine jr_bipush dX7_becomes_10 bp_6 ?_
  obtain ⟨g5, hf⟩ := so_gdE hf
  refine jr_copyI q750 q299 q298 q115 (so_m1 k_p1) (so_m1 k_p3) (so_cpE g5).1 (so_cpE g5).2.1 (so_cpE g5).2.2.1 (so_cpE g5).2.2.2.1 (so_cpE g5).2.2.2.2 (so_le rfl) (so_le rfl) dX7_becomes_12 ?_
  refine so_let_e hf (fun S6 hf => ?_)
  refine jr_aload_n dX7_becomes_15 rfl rfl jv_rr ?_
  refine jr_getR fl_X7_19_22 k_a1 (so_n26 rfl) dX7_becomes_16 ?_
  obtain ⟨p7, h8, hf⟩ := so_b hf
  obtain ⟨h8, k_p7⟩ := so_rk_s h8
  refine jr_rf h8 ?_
  refine jr_iconst dX7_becomes_19 ic_0 ?_
  refine jr_aload_n dX7_becomes_20 rfl rfl jv_rr ?_
  refine jr_getR fl_X7_19_22 k_a0 (so_n26 rfl) dX7_becomes_21 ?_
  obtain ⟨p9, h10, hf⟩ := so_b hf
  obtain ⟨h10, k_p9⟩ := so_rk_s h10
  refine jr_rf h10 ?_
  refine jr_iconst dX7_becomes_24 ic_0 ?_
  refine jr_bipush dX7_becomes_25 bp_6 ?_
  obtain ⟨g11, hf⟩ := so_gdE hf
  refine jr_copyI q750 q299 q298 q115 (so_m1 k_p7) (so_m1 k_p9) (so_cpE g11).1 (so_cpE g11).2.1 (so_cpE g11).2.2.1 (so_cpE g11).2.2.2.1 (so_cpE g11).2.2.2.2 (so_le rfl) (so_le rfl) dX7_becomes_27 ?_
  refine so_let_e hf (fun S12 hf => ?_)
  refine jr_aload_n dX7_becomes_30 rfl rfl jv_rr ?_
  refine jr_getR fl_X7_22_22 k_a1 (so_n26 rfl) dX7_becomes_31 ?_
  obtain ⟨p13, h14, hf⟩ := so_b hf
  obtain ⟨h14, k_p13⟩ := so_rk_s h14
  refine jr_rf h14 ?_
  refine jr_iconst dX7_becomes_34 ic_0 ?_
  refine jr_aload_n dX7_becomes_35 rfl rfl jv_rr ?_
  refine jr_getR fl_X7_22_22 k_a0 (so_n26 rfl) dX7_becomes_36 ?_
  obtain ⟨p15, h16, hf⟩ := so_b hf
  obtain ⟨h16, k_p15⟩ := so_rk_s h16
  refine jr_rf h16 ?_
  refine jr_iconst dX7_becomes_39 ic_0 ?_
  refine jr_bipush dX7_becomes_40 bp_6 ?_
  obtain ⟨g17, hf⟩ := so_gdE hf
  refine jr_copyI q750 q299 q298 q115 (so_m1 k_p13) (so_m1 k_p15) (so_cpE g17).1 (so_cpE g17).2.1 (so_cpE g17).2.2.1 (so_cpE g17).2.2.2.1 (so_cpE g17).2.2.2.2 (so_le rfl) (so_le rfl) dX7_becomes_42 ?_
  refine so_let_e hf (fun S18 hf => ?_)
  refine jr_aload_n dX7_becomes_45 rfl rfl jv_rr ?_
  refine jr_getR fl_X7_25_22 k_a1 (so_n26 rfl) dX7_becomes_46 ?_
  obtain ⟨p19, h20, hf⟩ := so_b hf
  obtain ⟨h20, k_p19⟩ := so_rk_s h20
  refine jr_rf h20 ?_
  refine jr_iconst dX7_becomes_49 ic_0 ?_
  refine jr_aload_n dX7_becomes_50 rfl rfl jv_rr ?_
  refine jr_getR fl_X7_25_22 k_a0 (so_n26 rfl) dX7_becomes_51 ?_
  obtain ⟨p21, h22, hf⟩ := so_b hf
  obtain ⟨h22, k_p21⟩ := so_rk_s h22
  refine jr_rf h22 ?_
  refine jr_iconst dX7_becomes_54 ic_0 ?_
  refine jr_bipush dX7_becomes_55 bp_80 ?_
  obtain ⟨g23, hf⟩ := so_gdE hf
  refine jr_copyI q750 q299 q298 q115 (so_m1 k_p19) (so_m1 k_p21) (so_cpE g23).1 (so_cpE g23).2.1 (so_cpE g23).2.2.1 (so_cpE g23).2.2.2.1 (so_cpE g23).2.2.2.2 (so_le rfl) (so_le rfl) dX7_becomes_57 ?_
  refine so_let_e hf (fun S24 hf => ?_)
  refine jr_aload_n dX7_becomes_60 rfl rfl jv_rr ?_
  refine jr_aload_n dX7_becomes_61 rfl rfl jv_rr ?_
  refine jr_getI fl_X7_46_22 k_a1 (so_n26 rfl) dX7_becomes_62 ?_
  refine jr_putI fp_X7_46_22 k_a0 (so_n26 rfl) (fun h => by cases h) rfl rfl dX7_becomes_65 ?_
  refine so_let_e hf (fun S25 hf => ?_)
  refine jr_aload_n dX7_becomes_68 rfl rfl jv_rr ?_
  refine jr_aload_n dX7_becomes_69 rfl rfl jv_rr ?_
  refine jr_getI fl_X7_49_22 k_a1 (so_n26 rfl) dX7_becomes_70 ?_
  refine jr_putI fp_X7_49_22 k_a0 (so_n26 rfl) (fun h => by cases h) rfl rfl dX7_becomes_73 ?_
  refine so_let_e hf (fun S26 hf => ?_)
  refine jr_aload_n dX7_becomes_76 rfl rfl jv_rr ?_
  obtain ⟨rfl, rfl⟩ := so_e2 hf
  exact jr_aret rfl (Or.inl ⟨_, rfl⟩) jv_rr dX7_becomes_77

/- X1_kept -/
abbrev kX1_kept : jx_K := (cX1_kept, 4, RX1, 2, (Option.none : Option Jvm.ClassFile.FieldType), "kept", [])
def fX1_kept (a0 : Nat) (a1 : Nat) (a2 : Int32) (a3 : Nat) (S : so_St) : Option so_St :=
  so_gd (so_in a2 (so_l S a1)) fun _ =>
  so_j (κ := so_St → Option so_St) (ρ := Option so_St) (fun (S2 : so_St) =>
  so_gd (so_in a2 (so_l S2 a1)) fun _ =>
  (so_rk (so_R S2 a1 a2.toNatClampNeg) [22]).bind fun p5 =>
  so_b2 (fX7_becomes p5 a3 S2) fun r8 S9 =>
  so_gd (decide (r8 % 64 ∈ [22])) fun _ =>
  some S9)
  (fun J3 =>
  so_nn (so_R S a1 a2.toNatClampNeg) [22]
  (J3 S)
  (so_let (so_new S 22 0 11) fun S12 =>
  (fX7_init (so_at S 22) a0 S12).bind fun S15 =>
  so_gd (so_in a2 (so_l S15 a1)) fun _ =>
  so_let (so_sR S15 a1 a2.toNatClampNeg (some (so_at S 22))) fun S17 =>
  J3 S17))
set_option maxHeartbeats 4000000 in
set_option maxRecDepth 100000 in
theorem wX1_kept {S' : so_St}  (a0 : Nat) (a1 : Nat) (a2 : Int32) (a3 : Nat)  (S : so_St) (k_a0 : a0 % 64 ∈ [0]) (k_a1 : a1 % 64 ∈ [54]) (k_a3 : a3 % 64 ∈ [22]) (hf : fX1_kept a0 a1 a2 a3 S = some S') : jx_Sp 2 yX1_kept (ws_ yX1_kept cX1_kept 4 (Option.none : Option Jvm.ClassFile.FieldType)) [.ref a0, .ref a1, .int a2, .ref a3] S (.inl none) S' := by
  refine jx_of (plainFor_of_name (by decide)) (so_le rfl) ?_
  show jg_ (S, S', .inl none) kX1_kept 0 [(0, .ref a0), (1, .ref a1), (2, .int a2), (3, .ref a3)] [] S
  unfold fX1_kept at hf
  refine jr_aload_n dX1_kept_0 rfl rfl jv_rr ?_
  refine jr_iload_n dX1_kept_1 rfl rfl ?_
  obtain ⟨g1, hf⟩ := so_gdE hf
  refine jr_aaload (Or.inl (so_m1 k_a1)) (so_inE g1) dX1_kept_2 ?_
  refine so_jE hf (fun J => ∀ (S2 : so_St), J S2 = some S' → jg_ (S, S', .inl none) kX1_kept 17 [(1, .ref a1), (2, .int a2), (3, .ref a3)] [] S2) (fun S2 hf => ?_) (fun J3 hJ3 hf => ?_)
  · refine jr_aload_n dX1_kept_17 rfl rfl jv_rr ?_
    refine jr_iload_n dX1_kept_18 rfl rfl ?_
    obtain ⟨g4, hf⟩ := so_gdE hf
    refine jr_aaload (Or.inl (so_m1 k_a1)) (so_inE g4) dX1_kept_19 ?_
    obtain ⟨p5, h6, hf⟩ := so_b hf
    obtain ⟨h6, k_p5⟩ := so_rk_s h6
    refine jr_rf h6 ?_
    refine jr_aload_n dX1_kept_20 rfl rfl jv_rr ?_
    obtain ⟨r8, S9, h7, hf⟩ := so_b2E hf
    obtain ⟨g10, hf⟩ := so_gdE hf
    refine jr_callM (st := []) lk_X1_235_22 (wX7_becomes p5 a3 S2 k_p5 k_a3 h7) k_p5 rfl rfl rfl (so_le rfl) (so_le rfl) dX1_kept_21 ?_
    refine jr_pop dX1_kept_24 rfl ?_
    obtain rfl := so_e1 hf
    exact jr_vret rfl dX1_kept_25
  · obtain ⟨h63, hf1, hf2⟩ := so_nnE hf
    refine jr_ifnonnull (tgt := 17) (so_nn63 h63 rfl) dX1_kept_3 rfl (fun a ha => ?_) (fun ha => ?_)
    · have hf := hf1 a ha
      refine jr_sub [1, 2, 3] rfl ?_
      exact hJ3 S hf
    · have hf := hf2 ha
      refine jr_aload_n dX1_kept_6 rfl rfl jv_rr ?_
      refine jr_iload_n dX1_kept_7 rfl rfl ?_
      refine jr_new nw_X1_44 dX1_kept_8 ?_
      refine so_let_e hf (fun S12 hf => ?_)
      refine jr_dup dX1_kept_11 rfl ?_
      refine jr_aload_n dX1_kept_12 rfl rfl jv_rr ?_
      obtain ⟨S15, h13, hf⟩ := so_b hf
      refine jr_call (st := [.ref (so_at S 22), .int a2, .ref a1]) lk_X1_46 (wX7_init (so_at S 22) a0 S12 (so_atk rfl) k_a0 h13) (jk_r1 (so_n63 (so_atk rfl) rfl)) rfl rfl (so_le rfl) (so_le rfl) dX1_kept_13 ?_
      obtain ⟨g16, hf⟩ := so_gdE hf
      refine jr_aastoreT (so_m1 k_a1) (so_m1 (so_atk rfl)) (so_inE g16) dX1_kept_16 ?_
      refine so_let_e hf (fun S17 hf => ?_)
      refine jr_sub [1, 2, 3] rfl ?_
      exact hJ3 S17 hf

/- J14_checkIndex -/
abbrev kJ14_checkIndex : jx_K := (cJ14_checkIndex, 3, RJ14, 0, (Option.some Jvm.ClassFile.FieldType.int), "checkIndex", [])
def fJ14_checkIndex (a0 : Int32) (a1 : Int32) (a2 : Option Nat) (S : so_St) : Option Int32 :=
  if a0 < (0 : Int32) then
  (none)
  else
  (if a0 < a1 then
  (some a0)
  else
  (none))
set_option maxHeartbeats 4000000 in
set_option maxRecDepth 100000 in
theorem wJ14_checkIndex {res : Int32}  (a0 : Int32) (a1 : Int32) (a2 : Option Nat)  (S : so_St)  (hf : fJ14_checkIndex a0 a1 a2 S = some res) : jx_Sp 0 yJ14_checkIndex (ws_ yJ14_checkIndex cJ14_checkIndex 3 (Option.some Jvm.ClassFile.FieldType.int)) [.int a0, .int a1, va_rf a2] S (.inl (some (.int res))) S := by
  refine jx_of (plainFor_of_name (by decide)) (by cases a2 <;> exact so_le rfl) ?_
  show jg_ (S, S, .inl (some (.int res))) kJ14_checkIndex 0 [(0, .int a0), (1, .int a1), (2, va_rf a2)] [] S
  unfold fJ14_checkIndex at hf
  refine jr_iload_n dJ14_checkIndex_0 rfl rfl ?_
  refine jr_if_lt (tgt := 9) dJ14_checkIndex_1 rfl (fun c1 => ?_) (fun c1 => ?_)
  · have hf := so_t c1 hf
    refine jr_aload_n dJ14_checkIndex_9 rfl rfl jv_rf ?_
    refine jr_iload_n dJ14_checkIndex_10 rfl rfl ?_
    refine jr_iload_n dJ14_checkIndex_11 rfl rfl ?_
    exact so_no hf
  · have hf := so_f c1 hf
    refine jr_iload_n dJ14_checkIndex_4 rfl rfl ?_
    refine jr_iload_n dJ14_checkIndex_5 rfl rfl ?_
    refine jr_icmp_lt (tgt := 16) dJ14_checkIndex_6 rfl (fun c2 => ?_) (fun c2 => ?_)
    · have hf := so_t c2 hf
      refine jr_iload_n dJ14_checkIndex_16 rfl rfl ?_
      obtain rfl := so_e1 hf
      exact jr_iret rfl rfl dJ14_checkIndex_17
    · have hf := so_f c2 hf
      refine jr_aload_n dJ14_checkIndex_9 rfl rfl jv_rf ?_
      refine jr_iload_n dJ14_checkIndex_10 rfl rfl ?_
      refine jr_iload_n dJ14_checkIndex_11 rfl rfl ?_
      exact so_no hf

/- J17_checkIndex -/
abbrev kJ17_checkIndex : jx_K := (cJ17_checkIndex, 2, RJ17, 1, (Option.some Jvm.ClassFile.FieldType.int), "checkIndex", [])
def fJ17_checkIndex (a0 : Int32) (a1 : Int32) (S : so_St) : Option Int32 :=
  (fJ14_checkIndex a0 a1 none S).bind fun r2 =>
  some r2
set_option maxHeartbeats 4000000 in
set_option maxRecDepth 100000 in
theorem wJ17_checkIndex {res : Int32}  (a0 : Int32) (a1 : Int32)  (S : so_St)  (hf : fJ17_checkIndex a0 a1 S = some res) : jx_Sp 1 yJ17_checkIndex (ws_ yJ17_checkIndex cJ17_checkIndex 2 (Option.some Jvm.ClassFile.FieldType.int)) [.int a0, .int a1] S (.inl (some (.int res))) S := by
  refine jx_of (plainFor_of_name (by decide)) (so_le rfl) ?_
  show jg_ (S, S, .inl (some (.int res))) kJ17_checkIndex 0 [(0, .int a0), (1, .int a1)] [] S
  unfold fJ17_checkIndex at hf
  refine jr_iload_n dJ17_checkIndex_0 rfl rfl ?_
  refine jr_iload_n dJ17_checkIndex_1 rfl rfl ?_
  refine jr_null dJ17_checkIndex_2 ?_
  obtain ⟨r2, h1, hf⟩ := so_b hf
  refine jr_call (st := []) lk_J17_105 (wJ14_checkIndex a0 a1 none S h1) jk_r0 rfl rfl (so_le rfl) (so_le rfl) dJ17_checkIndex_3 ?_
  obtain rfl := so_e1 hf
  exact jr_iret rfl rfl dJ17_checkIndex_6

/- J2_elementData -/
abbrev kJ2_elementData : jx_K := (cJ2_elementData, 2, RJ2, 0, (Option.some (Jvm.ClassFile.FieldType.object "java/lang/Object")), "elementData", [])
def fJ2_elementData (a0 : Nat) (a1 : Int32) (S : so_St) : Option (Option Nat) :=
  (so_rk (so_R S a0 1) [55]).bind fun p1 =>
  so_gd (so_in a1 (so_l S p1)) fun _ =>
  some (so_R S p1 a1.toNatClampNeg)
set_option maxHeartbeats 4000000 in
set_option maxRecDepth 100000 in
theorem wJ2_elementData {res : Option Nat}  (a0 : Nat) (a1 : Int32)  (S : so_St) (k_a0 : a0 % 64 ∈ [24]) (hf : fJ2_elementData a0 a1 S = some res) : jx_Sp 0 yJ2_elementData (ws_ yJ2_elementData cJ2_elementData 2 (Option.some (Jvm.ClassFile.FieldType.object "java/lang/Object"))) [.ref a0, .int a1] S (.inl (some (va_rf res))) S := by
  refine jx_of (plainFor_of_name (by decide)) (so_le rfl) ?_
  show jg_ (S, S, .inl (some (va_rf res))) kJ2_elementData 0 [(0, .ref a0), (1, .int a1)] [] S
  unfold fJ2_elementData at hf
  refine jr_aload_n dJ2_elementData_0 rfl rfl jv_rr ?_
  refine jr_getR fl_J2_9_24 k_a0 (so_n26 rfl) dJ2_elementData_1 ?_
  obtain ⟨p1, h2, hf⟩ := so_b hf
  obtain ⟨h2, k_p1⟩ := so_rk_s h2
  refine jr_rf h2 ?_
  refine jr_iload_n dJ2_elementData_4 rfl rfl ?_
  obtain ⟨g3, hf⟩ := so_gdE hf
  refine jr_aaload (Or.inr (so_m1 k_p1)) (so_inE g3) dJ2_elementData_5 ?_
  obtain rfl := so_e1 hf
  exact jr_aret rfl (Or.inl ⟨_, rfl⟩) jv_rf dJ2_elementData_6

/- J2_get -/
abbrev kJ2_get : jx_K := (cJ2_get, 2, RJ2, 2, (Option.some (Jvm.ClassFile.FieldType.object "java/lang/Object")), "get", [])
def fJ2_get (a0 : Nat) (a1 : Int32) (S : so_St) : Option (Option Nat) :=
  (fJ17_checkIndex a1 (so_I S a0 2) S).bind fun r2 =>
  (fJ2_elementData a0 a1 S).bind fun r4 =>
  some r4
set_option maxHeartbeats 4000000 in
set_option maxRecDepth 100000 in
theorem wJ2_get {res : Option Nat}  (a0 : Nat) (a1 : Int32)  (S : so_St) (k_a0 : a0 % 64 ∈ [24]) (hf : fJ2_get a0 a1 S = some res) : jx_Sp 2 yJ2_get (ws_ yJ2_get cJ2_get 2 (Option.some (Jvm.ClassFile.FieldType.object "java/lang/Object"))) [.ref a0, .int a1] S (.inl (some (va_rf res))) S := by
  refine jx_of (plainFor_of_name (by decide)) (so_le rfl) ?_
  show jg_ (S, S, .inl (some (va_rf res))) kJ2_get 0 [(0, .ref a0), (1, .int a1)] [] S
  unfold fJ2_get at hf
  refine jr_iload_n dJ2_get_0 rfl rfl ?_
  refine jr_aload_n dJ2_get_1 rfl rfl jv_rr ?_
  refine jr_getI fl_J2_48_24 k_a0 (so_n26 rfl) dJ2_get_2 ?_
  obtain ⟨r2, h1, hf⟩ := so_b hf
  refine jr_call (st := []) lk_J2_118 (wJ17_checkIndex a1 (so_I S a0 2) S h1) jk_r0 rfl rfl (so_le rfl) (so_le rfl) dJ2_get_5 ?_
  refine jr_pop dJ2_get_8 rfl ?_
  refine jr_aload_n dJ2_get_9 rfl rfl jv_rr ?_
  refine jr_iload_n dJ2_get_10 rfl rfl ?_
  obtain ⟨r4, h3, hf⟩ := so_b hf
  refine jr_callM (st := []) lk_J2_123_24 (wJ2_elementData a0 a1 S k_a0 h3) k_a0 rfl rfl rfl (so_le rfl) (so_le rfl) dJ2_get_11 ?_
  obtain rfl := so_e1 hf
  exact jr_aret rfl (Or.inl ⟨_, rfl⟩) jv_rf dJ2_get_14

/- VP:goes -/
def VP_goes (d : Nat) (a0 a1 : Nat) (S S' : so_St) : Prop := a0 % 64 ∈ [14, 15, 16, 17, 18] ∧ (a0 % 64 ∈ [14, 15, 16, 17] → ∃ d', d' ≤ d ∧ jx_Sp d' yX23_goes (ws_ yX23_goes cX23_goes 3 (Option.none : Option Jvm.ClassFile.FieldType)) [.ref a0, .ref a1] S (.inl none) S') ∧ (a0 % 64 ∈ [18] → ∃ d', d' ≤ d ∧ jx_Sp d' yX28_goes (ws_ yX28_goes cX28_goes 4 (Option.none : Option Jvm.ClassFile.FieldType)) [.ref a0, .ref a1] S (.inl none) S')

/- X22_may -/
abbrev kX22_may : jx_K := (cX22_may, 1, RX22, 0, (Option.some Jvm.ClassFile.FieldType.boolean), "may", [])
def fX22_may (a0 : Nat) (S : so_St) : Option (Int32 × so_St) :=
  if (so_I S a0 7) = (200 : Int32) then
  (some ((0 : Int32), S))
  else
  (so_let (so_sI S a0 7 ((so_I S a0 7) + (1 : Int32))) fun S2 =>
  some ((1 : Int32), S2))
set_option maxHeartbeats 4000000 in
set_option maxRecDepth 100000 in
theorem wX22_may {res : Int32} {S' : so_St}  (a0 : Nat)  (S : so_St) (k_a0 : a0 % 64 ∈ [22]) (hf : fX22_may a0 S = some (res, S')) : jx_Sp 0 yX22_may (ws_ yX22_may cX22_may 1 (Option.some Jvm.ClassFile.FieldType.boolean)) [.ref a0] S (.inl (some (.int res))) S' := by
  refine jx_of (plainFor_of_name (by decide)) (so_le rfl) ?_
  show jg_ (S, S', .inl (some (.int res))) kX22_may 0 [(0, .ref a0)] [] S
  unfold fX22_may at hf
  refine jr_aload_n dX22_may_0 rfl rfl jv_rr ?_
  refine jr_getI fl_X22_9_22 k_a0 (so_n26 rfl) dX22_may_1 ?_
  refine jr_sipush dX22_may_4 sp_200 ?_
  refine jr_icmp_ne (tgt := 12) dX22_may_7 rfl (fun c1 => ?_) (fun c1 => ?_)
  · have hf := so_f c1 hf
    refine jr_aload_n dX22_may_12 rfl rfl jv_rr ?_
    refine jr_dup dX22_may_13 rfl ?_
    refine jr_getI fl_X22_9_22 k_a0 (so_n26 rfl) dX22_may_14 ?_
    refine jr_iconst dX22_may_17 ic_1 ?_
    refine jr_iadd dX22_may_18 ?_
    refine jr_putI fp_X22_9_22 k_a0 (so_n26 rfl) (fun h => by cases h) rfl rfl dX22_may_19 ?_
    refine so_let_e hf (fun S2 hf => ?_)
    refine jr_iconst dX22_may_22 ic_1 ?_
    obtain ⟨rfl, rfl⟩ := so_e2 hf
    exact jr_iret rfl rfl dX22_may_23
  · have hf := so_t c1 hf
    refine jr_iconst dX22_may_10 ic_0 ?_
    obtain ⟨rfl, rfl⟩ := so_e2 hf
    exact jr_iret rfl rfl dX22_may_11

/- VP:isDone -/
def VP_isDone (d : Nat) (a0 a1 : Nat) (S : so_St) (res : Int32) (S' : so_St) : Prop := a0 % 64 ∈ [14, 15, 16, 17] ∧ (a0 % 64 ∈ [14] → ∃ d', d' ≤ d ∧ jx_Sp d' yX24_isDone (ws_ yX24_isDone cX24_isDone 2 (Option.some Jvm.ClassFile.FieldType.boolean)) [.ref a0, .ref a1] S (.inl (some (.int res))) S') ∧ (a0 % 64 ∈ [15] → ∃ d', d' ≤ d ∧ jx_Sp d' yX25_isDone (ws_ yX25_isDone cX25_isDone 2 (Option.some Jvm.ClassFile.FieldType.boolean)) [.ref a0, .ref a1] S (.inl (some (.int res))) S') ∧ (a0 % 64 ∈ [16] → ∃ d', d' ≤ d ∧ jx_Sp d' yX26_isDone (ws_ yX26_isDone cX26_isDone 2 (Option.some Jvm.ClassFile.FieldType.boolean)) [.ref a0, .ref a1] S (.inl (some (.int res))) S') ∧ (a0 % 64 ∈ [17] → ∃ d', d' ≤ d ∧ jx_Sp d' yX27_isDone (ws_ yX27_isDone cX27_isDone 2 (Option.some Jvm.ClassFile.FieldType.boolean)) [.ref a0, .ref a1] S (.inl (some (.int res))) S')

/- X7_in -/
abbrev kX7_in : jx_K := (cX7_in, 3, RX7, 2, (Option.some Jvm.ClassFile.FieldType.int), "in", [])
def LX7_in_2 (f0 : Nat) (f1 : Int32) (S : so_St) : Nat → Int32 → Option Int32
  | 0, _ => none
  | n + 1, v1 =>
    (so_rk (so_R S f0 10) [0]).bind fun p2 =>
    (fX1_pianos p2 S).bind fun r5 =>
    if r5 ≤ v1 then
    (some (-1 : Int32))
    else
    ((so_rk (so_R S f0 0) [50]).bind fun p7 =>
    so_gd (so_in v1 (so_l S p7)) fun _ =>
    if (so_I S p7 v1.toNatClampNeg) = f1 then
    (some v1)
    else
    (LX7_in_2 f0 f1 S n (v1 + (1 : Int32))))
set_option maxHeartbeats 4000000 in
set_option maxRecDepth 100000 in
theorem wX7_in_2 {res : Int32}   (f0 : Nat) (f1 : Int32)  (S : so_St) (k_f0 : f0 % 64 ∈ [22]) : ∀ (n : Nat) (v1 : Int32), LX7_in_2 f0 f1 S n v1 = some res → jg_ (S, S, .inl (some (.int res))) kX7_in 2 [(0, .ref f0), (1, .int f1), (2, .int v1)] [] S := by
  intro n
  induction n with
  | zero =>
    intro v1 hf
    exact so_no hf
  | succ n ih =>
    intro v1 hf
    rw [LX7_in_2] at hf
    refine jr_iload_n dX7_in_2 rfl rfl ?_
    refine jr_aload_n dX7_in_3 rfl rfl jv_rr ?_
    refine jr_getR fl_X7_3_22 k_f0 (so_n26 rfl) dX7_in_4 ?_
    obtain ⟨p2, h3, hf⟩ := so_b hf
    obtain ⟨h3, k_p2⟩ := so_rk_s h3
    refine jr_rf h3 ?_
    obtain ⟨r5, h4, hf⟩ := so_b hf
    refine jr_callM (st := [.int v1]) lk_X7_58_0 (wX1_pianos p2 S k_p2 h4) k_p2 rfl rfl rfl (so_le rfl) (so_le rfl) dX7_in_7 ?_
    refine jr_icmp_ge (tgt := 31) dX7_in_10 rfl (fun c6 => ?_) (fun c6 => ?_)
    · have hf := so_t c6 hf
      refine jr_iconst dX7_in_31 ic_m1 ?_
      obtain rfl := so_e1 hf
      exact jr_iret rfl rfl dX7_in_32
    · have hf := so_f c6 hf
      refine jr_aload_n dX7_in_13 rfl rfl jv_rr ?_
      refine jr_getR fl_X7_15_22 k_f0 (so_n26 rfl) dX7_in_14 ?_
      obtain ⟨p7, h8, hf⟩ := so_b hf
      obtain ⟨h8, k_p7⟩ := so_rk_s h8
      refine jr_rf h8 ?_
      refine jr_iload_n dX7_in_17 rfl rfl ?_
      obtain ⟨g9, hf⟩ := so_gdE hf
      refine jr_iaload (so_m1 k_p7) (so_inE g9) dX7_in_18 ?_
      refine jr_iload_n dX7_in_19 rfl rfl ?_
      refine jr_icmp_ne (tgt := 25) dX7_in_20 rfl (fun c10 => ?_) (fun c10 => ?_)
      · have hf := so_f c10 hf
        refine jr_iinc (v := v1 + (1 : Int32)) (lv' := [(0, .ref f0), (1, .int f1), (2, .int (v1 + (1 : Int32)))]) dX7_in_25 rfl rfl (so_le rfl) rfl ?_
        refine jr_goto (tgt := 2) dX7_in_28 rfl ?_
        exact ih (v1 + (1 : Int32)) hf
      · have hf := so_t c10 hf
        refine jr_iload_n dX7_in_23 rfl rfl ?_
        obtain rfl := so_e1 hf
        exact jr_iret rfl rfl dX7_in_24
def fX7_in (a0 : Nat) (a1 : Int32) (S : so_St) : Option Int32 :=
  LX7_in_2 a0 a1 S so_N (0 : Int32)
set_option maxHeartbeats 4000000 in
set_option maxRecDepth 100000 in
theorem wX7_in {res : Int32}  (a0 : Nat) (a1 : Int32)  (S : so_St) (k_a0 : a0 % 64 ∈ [22]) (hf : fX7_in a0 a1 S = some res) : jx_Sp 2 yX7_in (ws_ yX7_in cX7_in 3 (Option.some Jvm.ClassFile.FieldType.int)) [.ref a0, .int a1] S (.inl (some (.int res))) S := by
  refine jx_of (plainFor_of_name (by decide)) (so_le rfl) ?_
  show jg_ (S, S, .inl (some (.int res))) kX7_in 0 [(0, .ref a0), (1, .int a1)] [] S
  unfold fX7_in at hf
  refine jr_iconst dX7_in_0 ic_0 ?_
  refine jr_istore_n (lv' := [(0, .ref a0), (1, .int a1), (2, .int (0 : Int32))]) dX7_in_1 rfl (so_le rfl) rfl ?_
  refine wX7_in_2 a0 a1 S k_a0 so_N (0 : Int32) hf

/- X7_puts -/
abbrev kX7_puts : jx_K := (cX7_puts, 3, RX7, 3, (Option.some Jvm.ClassFile.FieldType.boolean), "puts", [])
def fX7_puts (a0 : Nat) (a1 : Int32) (a2 : Int32) (S : so_St) : Option (Int32 × so_St) :=
  (fX7_in a0 a2 S).bind fun r2 =>
  if r2 = (-1 : Int32) then
  ((so_rk (so_R S a0 0) [50]).bind fun p4 =>
  so_gd (so_in a1 (so_l S p4)) fun _ =>
  so_let (so_sI S p4 a1.toNatClampNeg a2) fun S7 =>
  (so_rk (so_R S7 a0 2) [50]).bind fun p8 =>
  so_gd (so_in a1 (so_l S7 p8)) fun _ =>
  so_let (so_sI S7 p8 a1.toNatClampNeg (0 : Int32)) fun S11 =>
  some ((1 : Int32), S11))
  else
  (some ((0 : Int32), S))
set_option maxHeartbeats 4000000 in
set_option maxRecDepth 100000 in
theorem wX7_puts {res : Int32} {S' : so_St}  (a0 : Nat) (a1 : Int32) (a2 : Int32)  (S : so_St) (k_a0 : a0 % 64 ∈ [22]) (hf : fX7_puts a0 a1 a2 S = some (res, S')) : jx_Sp 3 yX7_puts (ws_ yX7_puts cX7_puts 3 (Option.some Jvm.ClassFile.FieldType.boolean)) [.ref a0, .int a1, .int a2] S (.inl (some (.int res))) S' := by
  refine jx_of (plainFor_of_name (by decide)) (so_le rfl) ?_
  show jg_ (S, S', .inl (some (.int res))) kX7_puts 0 [(0, .ref a0), (1, .int a1), (2, .int a2)] [] S
  unfold fX7_puts at hf
  refine jr_aload_n dX7_puts_0 rfl rfl jv_rr ?_
  refine jr_iload_n dX7_puts_1 rfl rfl ?_
  obtain ⟨r2, h1, hf⟩ := so_b hf
  refine jr_callM (st := []) lk_X7_118_22 (wX7_in a0 a2 S k_a0 h1) k_a0 rfl rfl rfl (so_le rfl) (so_le rfl) dX7_puts_2 ?_
  refine jr_iconst dX7_puts_5 ic_m1 ?_
  refine jr_icmp_eq (tgt := 11) dX7_puts_6 rfl (fun c3 => ?_) (fun c3 => ?_)
  · have hf := so_t c3 hf
    refine jr_aload_n dX7_puts_11 rfl rfl jv_rr ?_
    refine jr_getR fl_X7_15_22 k_a0 (so_n26 rfl) dX7_puts_12 ?_
    obtain ⟨p4, h5, hf⟩ := so_b hf
    obtain ⟨h5, k_p4⟩ := so_rk_s h5
    refine jr_rf h5 ?_
    refine jr_iload_n dX7_puts_15 rfl rfl ?_
    refine jr_iload_n dX7_puts_16 rfl rfl ?_
    obtain ⟨g6, hf⟩ := so_gdE hf
    refine jr_iastore (so_m1 k_p4) (so_inE g6) dX7_puts_17 ?_
    refine so_let_e hf (fun S7 hf => ?_)
    refine jr_aload_n dX7_puts_18 rfl rfl jv_rr ?_
    refine jr_getR fl_X7_22_22 k_a0 (so_n26 rfl) dX7_puts_19 ?_
    obtain ⟨p8, h9, hf⟩ := so_b hf
    obtain ⟨h9, k_p8⟩ := so_rk_s h9
    refine jr_rf h9 ?_
    refine jr_iload_n dX7_puts_22 rfl rfl ?_
    refine jr_iconst dX7_puts_23 ic_0 ?_
    obtain ⟨g10, hf⟩ := so_gdE hf
    refine jr_iastore (so_m1 k_p8) (so_inE g10) dX7_puts_24 ?_
    refine so_let_e hf (fun S11 hf => ?_)
    refine jr_iconst dX7_puts_25 ic_1 ?_
    obtain ⟨rfl, rfl⟩ := so_e2 hf
    exact jr_iret rfl rfl dX7_puts_26
  · have hf := so_f c3 hf
    refine jr_iconst dX7_puts_9 ic_0 ?_
    obtain ⟨rfl, rfl⟩ := so_e2 hf
    exact jr_iret rfl rfl dX7_puts_10

/- X24_isDone -/
abbrev kX24_isDone : jx_K := (cX24_isDone, 2, RX24, 4, (Option.some Jvm.ClassFile.FieldType.boolean), "isDone", [])
def fX24_isDone (a0 : Nat) (a1 : Nat) (S : so_St) : Option (Int32 × so_St) :=
  so_b2 (fX7_puts a1 (so_I S a0 0) (so_I S a0 1) S) fun r2 S3 =>
  so_gd (so_01 r2) fun _ =>
  some (r2, S3)
set_option maxHeartbeats 4000000 in
set_option maxRecDepth 100000 in
theorem wX24_isDone {res : Int32} {S' : so_St}  (a0 : Nat) (a1 : Nat)  (S : so_St) (k_a0 : a0 % 64 ∈ [14]) (k_a1 : a1 % 64 ∈ [22]) (hf : fX24_isDone a0 a1 S = some (res, S')) : jx_Sp 4 yX24_isDone (ws_ yX24_isDone cX24_isDone 2 (Option.some Jvm.ClassFile.FieldType.boolean)) [.ref a0, .ref a1] S (.inl (some (.int res))) S' := by
  refine jx_of (plainFor_of_name (by decide)) (so_le rfl) ?_
  show jg_ (S, S', .inl (some (.int res))) kX24_isDone 0 [(0, .ref a0), (1, .ref a1)] [] S
  unfold fX24_isDone at hf
  refine jr_aload_n dX24_isDone_0 rfl rfl jv_rr ?_
  refine jr_aload_n dX24_isDone_1 rfl rfl jv_rr ?_
  refine jr_getI fl_X24_7_14 k_a0 (so_n26 rfl) dX24_isDone_2 ?_
  refine jr_aload_n dX24_isDone_5 rfl rfl jv_rr ?_
  refine jr_getI fl_X24_13_14 k_a0 (so_n26 rfl) dX24_isDone_6 ?_
  obtain ⟨r2, S3, h1, hf⟩ := so_b2E hf
  refine jr_callM (st := []) lk_X24_16_22 (wX7_puts a1 (so_I S a0 0) (so_I S a0 1) S k_a1 h1) k_a1 rfl rfl rfl (so_le rfl) (so_le rfl) dX24_isDone_9 ?_
  obtain ⟨g4, hf⟩ := so_gdE hf
  obtain ⟨rfl, rfl⟩ := so_e2 hf
  exact jr_iret rfl (so_01n (so_01E g4)) dX24_isDone_12

/- X7_takes -/
abbrev kX7_takes : jx_K := (cX7_takes, 2, RX7, 0, (Option.some Jvm.ClassFile.FieldType.boolean), "takes", [])
def fX7_takes (a0 : Nat) (a1 : Int32) (S : so_St) : Option (Int32 × so_St) :=
  (so_rk (so_R S a0 0) [50]).bind fun p1 =>
  so_gd (so_in a1 (so_l S p1)) fun _ =>
  if (so_I S p1 a1.toNatClampNeg) = (-1 : Int32) then
  (some ((0 : Int32), S))
  else
  ((so_rk (so_R S a0 0) [50]).bind fun p5 =>
  so_gd (so_in a1 (so_l S p5)) fun _ =>
  so_let (so_sI S p5 a1.toNatClampNeg (-1 : Int32)) fun S8 =>
  (so_rk (so_R S8 a0 2) [50]).bind fun p9 =>
  so_gd (so_in a1 (so_l S8 p9)) fun _ =>
  so_let (so_sI S8 p9 a1.toNatClampNeg (0 : Int32)) fun S12 =>
  some ((1 : Int32), S12))
set_option maxHeartbeats 4000000 in
set_option maxRecDepth 100000 in
theorem wX7_takes {res : Int32} {S' : so_St}  (a0 : Nat) (a1 : Int32)  (S : so_St) (k_a0 : a0 % 64 ∈ [22]) (hf : fX7_takes a0 a1 S = some (res, S')) : jx_Sp 0 yX7_takes (ws_ yX7_takes cX7_takes 2 (Option.some Jvm.ClassFile.FieldType.boolean)) [.ref a0, .int a1] S (.inl (some (.int res))) S' := by
  refine jx_of (plainFor_of_name (by decide)) (so_le rfl) ?_
  show jg_ (S, S', .inl (some (.int res))) kX7_takes 0 [(0, .ref a0), (1, .int a1)] [] S
  unfold fX7_takes at hf
  refine jr_aload_n dX7_takes_0 rfl rfl jv_rr ?_
  refine jr_getR fl_X7_15_22 k_a0 (so_n26 rfl) dX7_takes_1 ?_
  obtain ⟨p1, h2, hf⟩ := so_b hf
  obtain ⟨h2, k_p1⟩ := so_rk_s h2
  refine jr_rf h2 ?_
  refine jr_iload_n dX7_takes_4 rfl rfl ?_
  obtain ⟨g3, hf⟩ := so_gdE hf
  refine jr_iaload (so_m1 k_p1) (so_inE g3) dX7_takes_5 ?_
  refine jr_iconst dX7_takes_6 ic_m1 ?_
  refine jr_icmp_ne (tgt := 12) dX7_takes_7 rfl (fun c4 => ?_) (fun c4 => ?_)
  · have hf := so_f c4 hf
    refine jr_aload_n dX7_takes_12 rfl rfl jv_rr ?_
    refine jr_getR fl_X7_15_22 k_a0 (so_n26 rfl) dX7_takes_13 ?_
    obtain ⟨p5, h6, hf⟩ := so_b hf
    obtain ⟨h6, k_p5⟩ := so_rk_s h6
    refine jr_rf h6 ?_
    refine jr_iload_n dX7_takes_16 rfl rfl ?_
    refine jr_iconst dX7_takes_17 ic_m1 ?_
    obtain ⟨g7, hf⟩ := so_gdE hf
    refine jr_iastore (so_m1 k_p5) (so_inE g7) dX7_takes_18 ?_
    refine so_let_e hf (fun S8 hf => ?_)
    refine jr_aload_n dX7_takes_19 rfl rfl jv_rr ?_
    refine jr_getR fl_X7_22_22 k_a0 (so_n26 rfl) dX7_takes_20 ?_
    obtain ⟨p9, h10, hf⟩ := so_b hf
    obtain ⟨h10, k_p9⟩ := so_rk_s h10
    refine jr_rf h10 ?_
    refine jr_iload_n dX7_takes_23 rfl rfl ?_
    refine jr_iconst dX7_takes_24 ic_0 ?_
    obtain ⟨g11, hf⟩ := so_gdE hf
    refine jr_iastore (so_m1 k_p9) (so_inE g11) dX7_takes_25 ?_
    refine so_let_e hf (fun S12 hf => ?_)
    refine jr_iconst dX7_takes_26 ic_1 ?_
    obtain ⟨rfl, rfl⟩ := so_e2 hf
    exact jr_iret rfl rfl dX7_takes_27
  · have hf := so_t c4 hf
    refine jr_iconst dX7_takes_10 ic_0 ?_
    obtain ⟨rfl, rfl⟩ := so_e2 hf
    exact jr_iret rfl rfl dX7_takes_11

/- X25_isDone -/
abbrev kX25_isDone : jx_K := (cX25_isDone, 2, RX25, 1, (Option.some Jvm.ClassFile.FieldType.boolean), "isDone", [])
def fX25_isDone (a0 : Nat) (a1 : Nat) (S : so_St) : Option (Int32 × so_St) :=
  so_b2 (fX7_takes a1 (so_I S a0 0) S) fun r2 S3 =>
  so_gd (so_01 r2) fun _ =>
  some (r2, S3)
set_option maxHeartbeats 4000000 in
set_option maxRecDepth 100000 in
theorem wX25_isDone {res : Int32} {S' : so_St}  (a0 : Nat) (a1 : Nat)  (S : so_St) (k_a0 : a0 % 64 ∈ [15]) (k_a1 : a1 % 64 ∈ [22]) (hf : fX25_isDone a0 a1 S = some (res, S')) : jx_Sp 1 yX25_isDone (ws_ yX25_isDone cX25_isDone 2 (Option.some Jvm.ClassFile.FieldType.boolean)) [.ref a0, .ref a1] S (.inl (some (.int res))) S' := by
  refine jx_of (plainFor_of_name (by decide)) (so_le rfl) ?_
  show jg_ (S, S', .inl (some (.int res))) kX25_isDone 0 [(0, .ref a0), (1, .ref a1)] [] S
  unfold fX25_isDone at hf
  refine jr_aload_n dX25_isDone_0 rfl rfl jv_rr ?_
  refine jr_aload_n dX25_isDone_1 rfl rfl jv_rr ?_
  refine jr_getI fl_X25_7_15 k_a0 (so_n26 rfl) dX25_isDone_2 ?_
  obtain ⟨r2, S3, h1, hf⟩ := so_b2E hf
  refine jr_callM (st := []) lk_X25_13_22 (wX7_takes a1 (so_I S a0 0) S k_a1 h1) k_a1 rfl rfl rfl (so_le rfl) (so_le rfl) dX25_isDone_5 ?_
  obtain ⟨g4, hf⟩ := so_gdE hf
  obtain ⟨rfl, rfl⟩ := so_e2 hf
  exact jr_iret rfl (so_01n (so_01E g4)) dX25_isDone_8

/- X7_lays -/
abbrev kX7_lays : jx_K := (cX7_lays, 3, RX7, 0, (Option.some Jvm.ClassFile.FieldType.boolean), "lays", [])
def fX7_lays (a0 : Nat) (a1 : Int32) (a2 : Int32) (S : so_St) : Option (Int32 × so_St) :=
  (so_rk (so_R S a0 1) [50]).bind fun p1 =>
  so_gd (so_in a1 (so_l S p1)) fun _ =>
  if (so_I S p1 a1.toNatClampNeg) = a2 then
  (some ((0 : Int32), S))
  else
  ((so_rk (so_R S a0 1) [50]).bind fun p5 =>
  so_gd (so_in a1 (so_l S p5)) fun _ =>
  if (a2 - (so_I S p5 a1.toNatClampNeg)) ≤ (so_I S a0 5) then
  ((so_rk (so_R S a0 1) [50]).bind fun p9 =>
  so_gd (so_in a1 (so_l S p9)) fun _ =>
  so_let (so_sI S a0 5 ((so_I S a0 5) - (a2 - (so_I S p9 a1.toNatClampNeg)))) fun S12 =>
  (so_rk (so_R S12 a0 1) [50]).bind fun p13 =>
  so_gd (so_in a1 (so_l S12 p13)) fun _ =>
  so_let (so_sI S12 p13 a1.toNatClampNeg a2) fun S16 =>
  some ((1 : Int32), S16))
  else
  (some ((0 : Int32), S)))
set_option maxHeartbeats 4000000 in
set_option maxRecDepth 100000 in
theorem wX7_lays {res : Int32} {S' : so_St}  (a0 : Nat) (a1 : Int32) (a2 : Int32)  (S : so_St) (k_a0 : a0 % 64 ∈ [22]) (hf : fX7_lays a0 a1 a2 S = some (res, S')) : jx_Sp 0 yX7_lays (ws_ yX7_lays cX7_lays 3 (Option.some Jvm.ClassFile.FieldType.boolean)) [.ref a0, .int a1, .int a2] S (.inl (some (.int res))) S' := by
  refine jx_of (plainFor_of_name (by decide)) (so_le rfl) ?_
  show jg_ (S, S', .inl (some (.int res))) kX7_lays 0 [(0, .ref a0), (1, .int a1), (2, .int a2)] [] S
  unfold fX7_lays at hf
  refine jr_aload_n dX7_lays_0 rfl rfl jv_rr ?_
  refine jr_getR fl_X7_19_22 k_a0 (so_n26 rfl) dX7_lays_1 ?_
  obtain ⟨p1, h2, hf⟩ := so_b hf
  obtain ⟨h2, k_p1⟩ := so_rk_s h2
  refine jr_rf h2 ?_
  refine jr_iload_n dX7_lays_4 rfl rfl ?_
  obtain ⟨g3, hf⟩ := so_gdE hf
  refine jr_iaload (so_m1 k_p1) (so_inE g3) dX7_lays_5 ?_
  refine jr_iload_n dX7_lays_6 rfl rfl ?_
  refine jr_icmp_eq (tgt := 25) dX7_lays_7 rfl (fun c4 => ?_) (fun c4 => ?_)
  · have hf := so_t c4 hf
    refine jr_iconst dX7_lays_25 ic_0 ?_
    obtain ⟨rfl, rfl⟩ := so_e2 hf
    exact jr_iret rfl rfl dX7_lays_26
  · have hf := so_f c4 hf
    refine jr_aload_n dX7_lays_10 rfl rfl jv_rr ?_
    refine jr_getI fl_X7_46_22 k_a0 (so_n26 rfl) dX7_lays_11 ?_
    refine jr_iload_n dX7_lays_14 rfl rfl ?_
    refine jr_aload_n dX7_lays_15 rfl rfl jv_rr ?_
    refine jr_getR fl_X7_19_22 k_a0 (so_n26 rfl) dX7_lays_16 ?_
    obtain ⟨p5, h6, hf⟩ := so_b hf
    obtain ⟨h6, k_p5⟩ := so_rk_s h6
    refine jr_rf h6 ?_
    refine jr_iload_n dX7_lays_19 rfl rfl ?_
    obtain ⟨g7, hf⟩ := so_gdE hf
    refine jr_iaload (so_m1 k_p5) (so_inE g7) dX7_lays_20 ?_
    refine jr_isub dX7_lays_21 ?_
    refine jr_icmp_ge (tgt := 27) dX7_lays_22 rfl (fun c8 => ?_) (fun c8 => ?_)
    · have hf := so_t c8 hf
      refine jr_aload_n dX7_lays_27 rfl rfl jv_rr ?_
      refine jr_dup dX7_lays_28 rfl ?_
      refine jr_getI fl_X7_46_22 k_a0 (so_n26 rfl) dX7_lays_29 ?_
      refine jr_iload_n dX7_lays_32 rfl rfl ?_
      refine jr_aload_n dX7_lays_33 rfl rfl jv_rr ?_
      refine jr_getR fl_X7_19_22 k_a0 (so_n26 rfl) dX7_lays_34 ?_
      obtain ⟨p9, h10, hf⟩ := so_b hf
      obtain ⟨h10, k_p9⟩ := so_rk_s h10
      refine jr_rf h10 ?_
      refine jr_iload_n dX7_lays_37 rfl rfl ?_
      obtain ⟨g11, hf⟩ := so_gdE hf
      refine jr_iaload (so_m1 k_p9) (so_inE g11) dX7_lays_38 ?_
      refine jr_isub dX7_lays_39 ?_
      refine jr_isub dX7_lays_40 ?_
      refine jr_putI fp_X7_46_22 k_a0 (so_n26 rfl) (fun h => by cases h) rfl rfl dX7_lays_41 ?_
      refine so_let_e hf (fun S12 hf => ?_)
      refine jr_aload_n dX7_lays_44 rfl rfl jv_rr ?_
      refine jr_getR fl_X7_19_22 k_a0 (so_n26 rfl) dX7_lays_45 ?_
      obtain ⟨p13, h14, hf⟩ := so_b hf
      obtain ⟨h14, k_p13⟩ := so_rk_s h14
      refine jr_rf h14 ?_
      refine jr_iload_n dX7_lays_48 rfl rfl ?_
      refine jr_iload_n dX7_lays_49 rfl rfl ?_
      obtain ⟨g15, hf⟩ := so_gdE hf
      refine jr_iastore (so_m1 k_p13) (so_inE g15) dX7_lays_50 ?_
      refine so_let_e hf (fun S16 hf => ?_)
      refine jr_iconst dX7_lays_51 ic_1 ?_
      obtain ⟨rfl, rfl⟩ := so_e2 hf
      exact jr_iret rfl rfl dX7_lays_52
    · have hf := so_f c8 hf
      refine jr_iconst dX7_lays_25 ic_0 ?_
      obtain ⟨rfl, rfl⟩ := so_e2 hf
      exact jr_iret rfl rfl dX7_lays_26

/- X26_isDone -/
abbrev kX26_isDone : jx_K := (cX26_isDone, 2, RX26, 1, (Option.some Jvm.ClassFile.FieldType.boolean), "isDone", [])
def fX26_isDone (a0 : Nat) (a1 : Nat) (S : so_St) : Option (Int32 × so_St) :=
  so_b2 (fX7_lays a1 (so_I S a0 0) (so_I S a0 1) S) fun r2 S3 =>
  so_gd (so_01 r2) fun _ =>
  some (r2, S3)
set_option maxHeartbeats 4000000 in
set_option maxRecDepth 100000 in
theorem wX26_isDone {res : Int32} {S' : so_St}  (a0 : Nat) (a1 : Nat)  (S : so_St) (k_a0 : a0 % 64 ∈ [16]) (k_a1 : a1 % 64 ∈ [22]) (hf : fX26_isDone a0 a1 S = some (res, S')) : jx_Sp 1 yX26_isDone (ws_ yX26_isDone cX26_isDone 2 (Option.some Jvm.ClassFile.FieldType.boolean)) [.ref a0, .ref a1] S (.inl (some (.int res))) S' := by
  refine jx_of (plainFor_of_name (by decide)) (so_le rfl) ?_
  show jg_ (S, S', .inl (some (.int res))) kX26_isDone 0 [(0, .ref a0), (1, .ref a1)] [] S
  unfold fX26_isDone at hf
  refine jr_aload_n dX26_isDone_0 rfl rfl jv_rr ?_
  refine jr_aload_n dX26_isDone_1 rfl rfl jv_rr ?_
  refine jr_getI fl_X26_7_16 k_a0 (so_n26 rfl) dX26_isDone_2 ?_
  refine jr_aload_n dX26_isDone_5 rfl rfl jv_rr ?_
  refine jr_getI fl_X26_13_16 k_a0 (so_n26 rfl) dX26_isDone_6 ?_
  obtain ⟨r2, S3, h1, hf⟩ := so_b2E hf
  refine jr_callM (st := []) lk_X26_16_22 (wX7_lays a1 (so_I S a0 0) (so_I S a0 1) S k_a1 h1) k_a1 rfl rfl rfl (so_le rfl) (so_le rfl) dX26_isDone_9 ?_
  obtain ⟨g4, hf⟩ := so_gdE hf
  obtain ⟨rfl, rfl⟩ := so_e2 hf
  exact jr_iret rfl (so_01n (so_01E g4)) dX26_isDone_12

/- X1_pianoOf -/
abbrev kX1_pianoOf : jx_K := (cX1_pianoOf, 2, RX1, 3, (Option.some (Jvm.ClassFile.FieldType.object "TunedHouses$Piano")), "pianoOf", [])
def fX1_pianoOf (a0 : Nat) (a1 : Int32) (S : so_St) : Option Nat :=
  (so_rk (so_R S a0 0) [1]).bind fun p1 =>
  (so_rk (so_R S p1 5) [24]).bind fun p3 =>
  (fJ2_get p3 a1 S).bind fun r6 =>
  (so_rk r6 [4]).bind fun p7 =>
  some p7
set_option maxHeartbeats 4000000 in
set_option maxRecDepth 100000 in
theorem wX1_pianoOf {res : Nat}  (a0 : Nat) (a1 : Int32)  (S : so_St) (k_a0 : a0 % 64 ∈ [0]) (hf : fX1_pianoOf a0 a1 S = some res) : jx_Sp 3 yX1_pianoOf (ws_ yX1_pianoOf cX1_pianoOf 2 (Option.some (Jvm.ClassFile.FieldType.object "TunedHouses$Piano"))) [.ref a0, .int a1] S (.inl (some (.ref res))) S := by
  refine jx_of (plainFor_of_name (by decide)) (so_le rfl) ?_
  show jg_ (S, S, .inl (some (.ref res))) kX1_pianoOf 0 [(0, .ref a0), (1, .int a1)] [] S
  unfold fX1_pianoOf at hf
  refine jr_aload_n dX1_pianoOf_0 rfl rfl jv_rr ?_
  refine jr_getR fl_X1_22_0 k_a0 (so_n26 rfl) dX1_pianoOf_1 ?_
  obtain ⟨p1, h2, hf⟩ := so_b hf
  obtain ⟨h2, k_p1⟩ := so_rk_s h2
  refine jr_rf h2 ?_
  refine jr_getR fl_X1_112_1 k_p1 (so_n26 rfl) dX1_pianoOf_4 ?_
  obtain ⟨p3, h4, hf⟩ := so_b hf
  obtain ⟨h4, k_p3⟩ := so_rk_s h4
  refine jr_rf h4 ?_
  refine jr_iload_n dX1_pianoOf_7 rfl rfl ?_
  obtain ⟨r6, h5, hf⟩ := so_b hf
  refine jr_callM (st := []) lk_X1_122_24 (wJ2_get p3 a1 S k_p3 h5) k_p3 rfl rfl rfl (so_le rfl) (so_le rfl) dX1_pianoOf_8 ?_
  obtain ⟨p7, h8, hf⟩ := so_b hf
  obtain ⟨h8, k_p7⟩ := so_rk_s h8
  refine jr_rf h8 ?_
  refine jr_cast ca_X1_126_4 k_p7 (so_n26' rfl) dX1_pianoOf_11 ?_
  obtain rfl := so_e1 hf
  exact jr_aret rfl (Or.inl ⟨_, rfl⟩) jv_rr dX1_pianoOf_14

/- X1_has -/
abbrev kX1_has : jx_K := (cX1_has, 2, RX1, 0, (Option.some Jvm.ClassFile.FieldType.boolean), "has", [])
def fX1_has (a0 : Int32) (a1 : Int32) : Int32 :=
  if ((a0 >>> (a1 &&& 31)) &&& (1 : Int32)) = (1 : Int32) then
  ((1 : Int32))
  else
  ((0 : Int32))
set_option maxHeartbeats 4000000 in
set_option maxRecDepth 100000 in
theorem wX1_has {res : Int32}  (a0 : Int32) (a1 : Int32)  (S : so_St)  (hf : fX1_has a0 a1 = res) : jx_Sp 0 yX1_has (ws_ yX1_has cX1_has 2 (Option.some Jvm.ClassFile.FieldType.boolean)) [.int a0, .int a1] S (.inl (some (.int res))) S := by
  refine jx_of (plainFor_of_name (by decide)) (so_le rfl) ?_
  show jg_ (S, S, .inl (some (.int res))) kX1_has 0 [(0, .int a0), (1, .int a1)] [] S
  unfold fX1_has at hf
  refine jr_iload_n dX1_has_0 rfl rfl ?_
  refine jr_iload_n dX1_has_1 rfl rfl ?_
  refine jr_ishr dX1_has_2 ?_
  refine jr_iconst dX1_has_3 ic_1 ?_
  refine jr_iand dX1_has_4 ?_
  refine jr_iconst dX1_has_5 ic_1 ?_
  refine jr_icmp_ne (tgt := 13) dX1_has_6 rfl (fun c1 => ?_) (fun c1 => ?_)
  · have hf := so_f c1 hf
    refine jr_iconst dX1_has_13 ic_0 ?_
    obtain rfl := hf
    exact jr_iret rfl rfl dX1_has_14
  · have hf := so_t c1 hf
    refine jr_iconst dX1_has_9 ic_1 ?_
    refine jr_goto (tgt := 14) dX1_has_10 rfl ?_
    obtain rfl := hf
    exact jr_iret rfl rfl dX1_has_14

/- X7_next -/
abbrev kX7_next : jx_K := (cX7_next, 4, RX7, 2, (Option.some Jvm.ClassFile.FieldType.int), "next", [])
def LX7_next_4 (f0 : Nat) (f1 : Int32) (S : so_St) : Nat → Int32 → Int32 → Option Int32
  | 0, _, _ => none
  | n + 1, v1, v2 =>
    (so_rk (so_R S f0 10) [0]).bind fun p3 =>
    (fX1_pianos p3 S).bind fun r6 =>
    if r6 ≤ v2 then
    (some v1)
    else
    ((so_rk (so_R S f0 0) [50]).bind fun p8 =>
    so_gd (so_in v2 (so_l S p8)) fun _ =>
    so_j (κ := Int32 → Option Int32) (ρ := Option Int32) (fun (v11 : Int32) =>
    LX7_next_4 f0 f1 S n (v1 ||| v11) (v2 + (1 : Int32)))
    (fun J12 =>
    so_j (κ := Unit → Option Int32) (ρ := Option Int32) (fun (_u : Unit) =>
    J12 (0 : Int32))
    (fun J13 =>
    if (so_I S p8 v2.toNatClampNeg) = (-1 : Int32) then
    (J13 ())
    else
    ((so_rk (so_R S f0 10) [0]).bind fun p15 =>
    (so_rk (so_R S p15 0) [1]).bind fun p17 =>
    (so_rk (so_R S p17 2) [50]).bind fun p19 =>
    so_gd (so_in f1 (so_l S p19)) fun _ =>
    (so_rk (so_R S f0 0) [50]).bind fun p22 =>
    so_gd (so_in v2 (so_l S p22)) fun _ =>
    if (fX1_has (so_I S p19 f1.toNatClampNeg) (so_I S p22 v2.toNatClampNeg)) = (0 : Int32) then
    (J13 ())
    else
    (J12 ((1 : Int32) <<< (v2 &&& 31)))))))
set_option maxHeartbeats 4000000 in
set_option maxRecDepth 100000 in
theorem wX7_next_4 {res : Int32}   (f0 : Nat) (f1 : Int32)  (S : so_St) (k_f0 : f0 % 64 ∈ [22]) : ∀ (n : Nat) (v1 : Int32) (v2 : Int32), LX7_next_4 f0 f1 S n v1 v2 = some res → jg_ (S, S, .inl (some (.int res))) kX7_next 4 [(0, .ref f0), (1, .int f1), (2, .int v1), (3, .int v2)] [] S := by
  intro n
  induction n with
  | zero =>
    intro v1 v2 hf
    exact so_no hf
  | succ n ih =>
    intro v1 v2 hf
    rw [LX7_next_4] at hf
    refine jr_iload_n dX7_next_4 rfl rfl ?_
    refine jr_aload_n dX7_next_5 rfl rfl jv_rr ?_
    refine jr_getR fl_X7_3_22 k_f0 (so_n26 rfl) dX7_next_6 ?_
    obtain ⟨p3, h4, hf⟩ := so_b hf
    obtain ⟨h4, k_p3⟩ := so_rk_s h4
    refine jr_rf h4 ?_
    obtain ⟨r6, h5, hf⟩ := so_b hf
    refine jr_callM (st := [.int v2]) lk_X7_58_0 (wX1_pianos p3 S k_p3 h5) k_p3 rfl rfl rfl (so_le rfl) (so_le rfl) dX7_next_9 ?_
    refine jr_icmp_ge (tgt := 65) dX7_next_12 rfl (fun c7 => ?_) (fun c7 => ?_)
    · have hf := so_t c7 hf
      refine jr_iload_n dX7_next_65 rfl rfl ?_
      obtain rfl := so_e1 hf
      exact jr_iret rfl rfl dX7_next_66
    · have hf := so_f c7 hf
      refine jr_iload_n dX7_next_15 rfl rfl ?_
      refine jr_aload_n dX7_next_16 rfl rfl jv_rr ?_
      refine jr_getR fl_X7_15_22 k_f0 (so_n26 rfl) dX7_next_17 ?_
      obtain ⟨p8, h9, hf⟩ := so_b hf
      obtain ⟨h9, k_p8⟩ := so_rk_s h9
      refine jr_rf h9 ?_
      refine jr_iload_n dX7_next_20 rfl rfl ?_
      obtain ⟨g10, hf⟩ := so_gdE hf
      refine jr_iaload (so_m1 k_p8) (so_inE g10) dX7_next_21 ?_
      refine jr_iconst dX7_next_22 ic_m1 ?_
      refine so_jE hf (fun J => ∀ (v11 : Int32), J v11 = some res → jg_ (S, S, .inl (some (.int res))) kX7_next 57 [(0, .ref f0), (1, .int f1), (3, .int v2)] [.int v11, .int v1] S) (fun v11 hf => ?_) (fun J12 hJ12 hf => ?_)
      · refine jr_ior dX7_next_57 ?_
        refine jr_istore_n (lv' := [(0, .ref f0), (1, .int f1), (2, .int (v1 ||| v11)), (3, .int v2)]) dX7_next_58 rfl (so_le rfl) rfl ?_
        refine jr_iinc (v := v2 + (1 : Int32)) (lv' := [(0, .ref f0), (1, .int f1), (2, .int (v1 ||| v11)), (3, .int (v2 + (1 : Int32)))]) dX7_next_59 rfl rfl (so_le rfl) rfl ?_
        refine jr_goto (tgt := 4) dX7_next_62 rfl ?_
        exact ih (v1 ||| v11) (v2 + (1 : Int32)) hf
      · refine so_jE hf (fun J => ∀ (u0 : Unit), J u0 = some res → jg_ (S, S, .inl (some (.int res))) kX7_next 56 [(0, .ref f0), (1, .int f1), (3, .int v2)] [.int v1] S) (fun _u hf => ?_) (fun J13 hJ13 hf => ?_)
        · refine jr_iconst dX7_next_56 ic_0 ?_
          exact hJ12 (0 : Int32) hf
        · refine jr_icmp_eq (tgt := 56) dX7_next_23 rfl (fun c14 => ?_) (fun c14 => ?_)
          · have hf := so_t c14 hf
            refine jr_sub [0, 1, 3] rfl ?_
            exact hJ13 () hf
          · have hf := so_f c14 hf
            refine jr_aload_n dX7_next_26 rfl rfl jv_rr ?_
            refine jr_getR fl_X7_3_22 k_f0 (so_n26 rfl) dX7_next_27 ?_
            obtain ⟨p15, h16, hf⟩ := so_b hf
            obtain ⟨h16, k_p15⟩ := so_rk_s h16
            refine jr_rf h16 ?_
            refine jr_getR fl_X7_31_0 k_p15 (so_n26 rfl) dX7_next_30 ?_
            obtain ⟨p17, h18, hf⟩ := so_b hf
            obtain ⟨h18, k_p17⟩ := so_rk_s h18
            refine jr_rf h18 ?_
            refine jr_getR fl_X7_62_1 k_p17 (so_n26 rfl) dX7_next_33 ?_
            obtain ⟨p19, h20, hf⟩ := so_b hf
            obtain ⟨h20, k_p19⟩ := so_rk_s h20
            refine jr_rf h20 ?_
            refine jr_iload_n dX7_next_36 rfl rfl ?_
            obtain ⟨g21, hf⟩ := so_gdE hf
            refine jr_iaload (so_m1 k_p19) (so_inE g21) dX7_next_37 ?_
            refine jr_aload_n dX7_next_38 rfl rfl jv_rr ?_
            refine jr_getR fl_X7_15_22 k_f0 (so_n26 rfl) dX7_next_39 ?_
            obtain ⟨p22, h23, hf⟩ := so_b hf
            obtain ⟨h23, k_p22⟩ := so_rk_s h23
            refine jr_rf h23 ?_
            refine jr_iload_n dX7_next_42 rfl rfl ?_
            obtain ⟨g24, hf⟩ := so_gdE hf
            refine jr_iaload (so_m1 k_p22) (so_inE g24) dX7_next_43 ?_
            refine jr_call (st := [.int v1]) lk_X7_65 (wX1_has (so_I S p19 f1.toNatClampNeg) (so_I S p22 v2.toNatClampNeg) S rfl) jk_r0 rfl rfl (so_le rfl) (so_le rfl) dX7_next_44 ?_
            refine jr_if_eq (tgt := 56) dX7_next_47 rfl (fun c25 => ?_) (fun c25 => ?_)
            · have hf := so_t c25 hf
              refine jr_sub [0, 1, 3] rfl ?_
              exact hJ13 () hf
            · have hf := so_f c25 hf
              refine jr_iconst dX7_next_50 ic_1 ?_
              refine jr_iload_n dX7_next_51 rfl rfl ?_
              refine jr_ishl dX7_next_52 ?_
              refine jr_goto (tgt := 57) dX7_next_53 rfl ?_
              refine jr_sub [0, 1, 3] rfl ?_
              exact hJ12 ((1 : Int32) <<< (v2 &&& 31)) hf
def fX7_next (a0 : Nat) (a1 : Int32) (S : so_St) : Option Int32 :=
  LX7_next_4 a0 a1 S so_N (0 : Int32) (0 : Int32)
set_option maxHeartbeats 4000000 in
set_option maxRecDepth 100000 in
theorem wX7_next {res : Int32}  (a0 : Nat) (a1 : Int32)  (S : so_St) (k_a0 : a0 % 64 ∈ [22]) (hf : fX7_next a0 a1 S = some res) : jx_Sp 2 yX7_next (ws_ yX7_next cX7_next 4 (Option.some Jvm.ClassFile.FieldType.int)) [.ref a0, .int a1] S (.inl (some (.int res))) S := by
  refine jx_of (plainFor_of_name (by decide)) (so_le rfl) ?_
  show jg_ (S, S, .inl (some (.int res))) kX7_next 0 [(0, .ref a0), (1, .int a1)] [] S
  unfold fX7_next at hf
  refine jr_iconst dX7_next_0 ic_0 ?_
  refine jr_istore_n (lv' := [(0, .ref a0), (1, .int a1), (2, .int (0 : Int32))]) dX7_next_1 rfl (so_le rfl) rfl ?_
  refine jr_iconst dX7_next_2 ic_0 ?_
  refine jr_istore_n (lv' := [(0, .ref a0), (1, .int a1), (2, .int (0 : Int32)), (3, .int (0 : Int32))]) dX7_next_3 rfl (so_le rfl) rfl ?_
  refine wX7_next_4 a0 a1 S k_a0 so_N (0 : Int32) (0 : Int32) hf

/- J16_bitCount -/
abbrev kJ16_bitCount : jx_K := (cJ16_bitCount, 1, RJ16, 0, (Option.some Jvm.ClassFile.FieldType.int), "bitCount", [])
def fJ16_bitCount (a0 : Int32) : Int32 :=
  ((((((((a0 - (((a0.toUInt32 >>> ((1 : Int32).toUInt32 &&& Int32.toUInt32 31)).toInt32) &&& (1431655765 : Int32))) &&& (858993459 : Int32)) + ((((a0 - (((a0.toUInt32 >>> ((1 : Int32).toUInt32 &&& Int32.toUInt32 31)).toInt32) &&& (1431655765 : Int32))).toUInt32 >>> ((2 : Int32).toUInt32 &&& Int32.toUInt32 31)).toInt32) &&& (858993459 : Int32))) + (((((a0 - (((a0.toUInt32 >>> ((1 : Int32).toUInt32 &&& Int32.toUInt32 31)).toInt32) &&& (1431655765 : Int32))) &&& (858993459 : Int32)) + ((((a0 - (((a0.toUInt32 >>> ((1 : Int32).toUInt32 &&& Int32.toUInt32 31)).toInt32) &&& (1431655765 : Int32))).toUInt32 >>> ((2 : Int32).toUInt32 &&& Int32.toUInt32 31)).toInt32) &&& (858993459 : Int32))).toUInt32 >>> ((4 : Int32).toUInt32 &&& Int32.toUInt32 31)).toInt32)) &&& (252645135 : Int32)) + (((((((a0 - (((a0.toUInt32 >>> ((1 : Int32).toUInt32 &&& Int32.toUInt32 31)).toInt32) &&& (1431655765 : Int32))) &&& (858993459 : Int32)) + ((((a0 - (((a0.toUInt32 >>> ((1 : Int32).toUInt32 &&& Int32.toUInt32 31)).toInt32) &&& (1431655765 : Int32))).toUInt32 >>> ((2 : Int32).toUInt32 &&& Int32.toUInt32 31)).toInt32) &&& (858993459 : Int32))) + (((((a0 - (((a0.toUInt32 >>> ((1 : Int32).toUInt32 &&& Int32.toUInt32 31)).toInt32) &&& (1431655765 : Int32))) &&& (858993459 : Int32)) + ((((a0 - (((a0.toUInt32 >>> ((1 : Int32).toUInt32 &&& Int32.toUInt32 31)).toInt32) &&& (1431655765 : Int32))).toUInt32 >>> ((2 : Int32).toUInt32 &&& Int32.toUInt32 31)).toInt32) &&& (858993459 : Int32))).toUInt32 >>> ((4 : Int32).toUInt32 &&& Int32.toUInt32 31)).toInt32)) &&& (252645135 : Int32)).toUInt32 >>> ((8 : Int32).toUInt32 &&& Int32.toUInt32 31)).toInt32)) + ((((((((a0 - (((a0.toUInt32 >>> ((1 : Int32).toUInt32 &&& Int32.toUInt32 31)).toInt32) &&& (1431655765 : Int32))) &&& (858993459 : Int32)) + ((((a0 - (((a0.toUInt32 >>> ((1 : Int32).toUInt32 &&& Int32.toUInt32 31)).toInt32) &&& (1431655765 : Int32))).toUInt32 >>> ((2 : Int32).toUInt32 &&& Int32.toUInt32 31)).toInt32) &&& (858993459 : Int32))) + (((((a0 - (((a0.toUInt32 >>> ((1 : Int32).toUInt32 &&& Int32.toUInt32 31)).toInt32) &&& (1431655765 : Int32))) &&& (858993459 : Int32)) + ((((a0 - (((a0.toUInt32 >>> ((1 : Int32).toUInt32 &&& Int32.toUInt32 31)).toInt32) &&& (1431655765 : Int32))).toUInt32 >>> ((2 : Int32).toUInt32 &&& Int32.toUInt32 31)).toInt32) &&& (858993459 : Int32))).toUInt32 >>> ((4 : Int32).toUInt32 &&& Int32.toUInt32 31)).toInt32)) &&& (252645135 : Int32)) + (((((((a0 - (((a0.toUInt32 >>> ((1 : Int32).toUInt32 &&& Int32.toUInt32 31)).toInt32) &&& (1431655765 : Int32))) &&& (858993459 : Int32)) + ((((a0 - (((a0.toUInt32 >>> ((1 : Int32).toUInt32 &&& Int32.toUInt32 31)).toInt32) &&& (1431655765 : Int32))).toUInt32 >>> ((2 : Int32).toUInt32 &&& Int32.toUInt32 31)).toInt32) &&& (858993459 : Int32))) + (((((a0 - (((a0.toUInt32 >>> ((1 : Int32).toUInt32 &&& Int32.toUInt32 31)).toInt32) &&& (1431655765 : Int32))) &&& (858993459 : Int32)) + ((((a0 - (((a0.toUInt32 >>> ((1 : Int32).toUInt32 &&& Int32.toUInt32 31)).toInt32) &&& (1431655765 : Int32))).toUInt32 >>> ((2 : Int32).toUInt32 &&& Int32.toUInt32 31)).toInt32) &&& (858993459 : Int32))).toUInt32 >>> ((4 : Int32).toUInt32 &&& Int32.toUInt32 31)).toInt32)) &&& (252645135 : Int32)).toUInt32 >>> ((8 : Int32).toUInt32 &&& Int32.toUInt32 31)).toInt32)).toUInt32 >>> ((16 : Int32).toUInt32 &&& Int32.toUInt32 31)).toInt32)) &&& (63 : Int32))
set_option maxHeartbeats 4000000 in
set_option maxRecDepth 100000 in
theorem wJ16_bitCount {res : Int32}  (a0 : Int32)  (S : so_St)  (hf : fJ16_bitCount a0 = res) : jx_Sp 0 yJ16_bitCount (ws_ yJ16_bitCount cJ16_bitCount 1 (Option.some Jvm.ClassFile.FieldType.int)) [.int a0] S (.inl (some (.int res))) S := by
  refine jx_of (plainFor_of_name (by decide)) (so_le rfl) ?_
  show jg_ (S, S, .inl (some (.int res))) kJ16_bitCount 0 [(0, .int a0)] [] S
  unfold fJ16_bitCount at hf
  refine jr_iload_n dJ16_bitCount_0 rfl rfl ?_
  refine jr_iload_n dJ16_bitCount_1 rfl rfl ?_
  refine jr_iconst dJ16_bitCount_2 ic_1 ?_
  refine jr_iushr dJ16_bitCount_3 ?_
  refine jr_ldcwI q830 dJ16_bitCount_4 ?_
  refine jr_iand dJ16_bitCount_7 ?_
  refine jr_isub dJ16_bitCount_8 ?_
  refine jr_istore_n (lv' := [(0, .int (a0 - (((a0.toUInt32 >>> ((1 : Int32).toUInt32 &&& Int32.toUInt32 31)).toInt32) &&& (1431655765 : Int32))))]) dJ16_bitCount_9 rfl (so_le rfl) rfl ?_
  refine jr_iload_n dJ16_bitCount_10 rfl rfl ?_
  refine jr_ldcwI q831 dJ16_bitCount_11 ?_
  refine jr_iand dJ16_bitCount_14 ?_
  refine jr_iload_n dJ16_bitCount_15 rfl rfl ?_
  refine jr_iconst dJ16_bitCount_16 ic_2 ?_
  refine jr_iushr dJ16_bitCount_17 ?_
  refine jr_ldcwI q831 dJ16_bitCount_18 ?_
  refine jr_iand dJ16_bitCount_21 ?_
  refine jr_iadd dJ16_bitCount_22 ?_
  refine jr_istore_n (lv' := [(0, .int (((a0 - (((a0.toUInt32 >>> ((1 : Int32).toUInt32 &&& Int32.toUInt32 31)).toInt32) &&& (1431655765 : Int32))) &&& (858993459 : Int32)) + ((((a0 - (((a0.toUInt32 >>> ((1 : Int32).toUInt32 &&& Int32.toUInt32 31)).toInt32) &&& (1431655765 : Int32))).toUInt32 >>> ((2 : Int32).toUInt32 &&& Int32.toUInt32 31)).toInt32) &&& (858993459 : Int32))))]) dJ16_bitCount_23 rfl (so_le rfl) rfl ?_
  refine jr_iload_n dJ16_bitCount_24 rfl rfl ?_
  refine jr_iload_n dJ16_bitCount_25 rfl rfl ?_
  refine jr_iconst dJ16_bitCount_26 ic_4 ?_
  refine jr_iushr dJ16_bitCount_27 ?_
  refine jr_iadd dJ16_bitCount_28 ?_
  refine jr_ldcwI q832 dJ16_bitCount_29 ?_
  refine jr_iand dJ16_bitCount_32 ?_
  refine jr_istore_n (lv' := [(0, .int (((((a0 - (((a0.toUInt32 >>> ((1 : Int32).toUInt32 &&& Int32.toUInt32 31)).toInt32) &&& (1431655765 : Int32))) &&& (858993459 : Int32)) + ((((a0 - (((a0.toUInt32 >>> ((1 : Int32).toUInt32 &&& Int32.toUInt32 31)).toInt32) &&& (1431655765 : Int32))).toUInt32 >>> ((2 : Int32).toUInt32 &&& Int32.toUInt32 31)).toInt32) &&& (858993459 : Int32))) + (((((a0 - (((a0.toUInt32 >>> ((1 : Int32).toUInt32 &&& Int32.toUInt32 31)).toInt32) &&& (1431655765 : Int32))) &&& (858993459 : Int32)) + ((((a0 - (((a0.toUInt32 >>> ((1 : Int32).toUInt32 &&& Int32.toUInt32 31)).toInt32) &&& (1431655765 : Int32))).toUInt32 >>> ((2 : Int32).toUInt32 &&& Int32.toUInt32 31)).toInt32) &&& (858993459 : Int32))).toUInt32 >>> ((4 : Int32).toUInt32 &&& Int32.toUInt32 31)).toInt32)) &&& (252645135 : Int32)))]) dJ16_bitCount_33 rfl (so_le rfl) rfl ?_
  refine jr_iload_n dJ16_bitCount_34 rfl rfl ?_
  refine jr_iload_n dJ16_bitCount_35 rfl rfl ?_
  refine jr_bipush dJ16_bitCount_36 bp_8 ?_
  refine jr_iushr dJ16_bitCount_38 ?_
  refine jr_iadd dJ16_bitCount_39 ?_
  refine jr_istore_n (lv' := [(0, .int ((((((a0 - (((a0.toUInt32 >>> ((1 : Int32).toUInt32 &&& Int32.toUInt32 31)).toInt32) &&& (1431655765 : Int32))) &&& (858993459 : Int32)) + ((((a0 - (((a0.toUInt32 >>> ((1 : Int32).toUInt32 &&& Int32.toUInt32 31)).toInt32) &&& (1431655765 : Int32))).toUInt32 >>> ((2 : Int32).toUInt32 &&& Int32.toUInt32 31)).toInt32) &&& (858993459 : Int32))) + (((((a0 - (((a0.toUInt32 >>> ((1 : Int32).toUInt32 &&& Int32.toUInt32 31)).toInt32) &&& (1431655765 : Int32))) &&& (858993459 : Int32)) + ((((a0 - (((a0.toUInt32 >>> ((1 : Int32).toUInt32 &&& Int32.toUInt32 31)).toInt32) &&& (1431655765 : Int32))).toUInt32 >>> ((2 : Int32).toUInt32 &&& Int32.toUInt32 31)).toInt32) &&& (858993459 : Int32))).toUInt32 >>> ((4 : Int32).toUInt32 &&& Int32.toUInt32 31)).toInt32)) &&& (252645135 : Int32)) + (((((((a0 - (((a0.toUInt32 >>> ((1 : Int32).toUInt32 &&& Int32.toUInt32 31)).toInt32) &&& (1431655765 : Int32))) &&& (858993459 : Int32)) + ((((a0 - (((a0.toUInt32 >>> ((1 : Int32).toUInt32 &&& Int32.toUInt32 31)).toInt32) &&& (1431655765 : Int32))).toUInt32 >>> ((2 : Int32).toUInt32 &&& Int32.toUInt32 31)).toInt32) &&& (858993459 : Int32))) + (((((a0 - (((a0.toUInt32 >>> ((1 : Int32).toUInt32 &&& Int32.toUInt32 31)).toInt32) &&& (1431655765 : Int32))) &&& (858993459 : Int32)) + ((((a0 - (((a0.toUInt32 >>> ((1 : Int32).toUInt32 &&& Int32.toUInt32 31)).toInt32) &&& (1431655765 : Int32))).toUInt32 >>> ((2 : Int32).toUInt32 &&& Int32.toUInt32 31)).toInt32) &&& (858993459 : Int32))).toUInt32 >>> ((4 : Int32).toUInt32 &&& Int32.toUInt32 31)).toInt32)) &&& (252645135 : Int32)).toUInt32 >>> ((8 : Int32).toUInt32 &&& Int32.toUInt32 31)).toInt32)))]) dJ16_bitCount_40 rfl (so_le rfl) rfl ?_
  refine jr_iload_n dJ16_bitCount_41 rfl rfl ?_
  refine jr_iload_n dJ16_bitCount_42 rfl rfl ?_
  refine jr_bipush dJ16_bitCount_43 bp_16 ?_
  refine jr_iushr dJ16_bitCount_45 ?_
  refine jr_iadd dJ16_bitCount_46 ?_
  refine jr_istore_n (lv' := [(0, .int (((((((a0 - (((a0.toUInt32 >>> ((1 : Int32).toUInt32 &&& Int32.toUInt32 31)).toInt32) &&& (1431655765 : Int32))) &&& (858993459 : Int32)) + ((((a0 - (((a0.toUInt32 >>> ((1 : Int32).toUInt32 &&& Int32.toUInt32 31)).toInt32) &&& (1431655765 : Int32))).toUInt32 >>> ((2 : Int32).toUInt32 &&& Int32.toUInt32 31)).toInt32) &&& (858993459 : Int32))) + (((((a0 - (((a0.toUInt32 >>> ((1 : Int32).toUInt32 &&& Int32.toUInt32 31)).toInt32) &&& (1431655765 : Int32))) &&& (858993459 : Int32)) + ((((a0 - (((a0.toUInt32 >>> ((1 : Int32).toUInt32 &&& Int32.toUInt32 31)).toInt32) &&& (1431655765 : Int32))).toUInt32 >>> ((2 : Int32).toUInt32 &&& Int32.toUInt32 31)).toInt32) &&& (858993459 : Int32))).toUInt32 >>> ((4 : Int32).toUInt32 &&& Int32.toUInt32 31)).toInt32)) &&& (252645135 : Int32)) + (((((((a0 - (((a0.toUInt32 >>> ((1 : Int32).toUInt32 &&& Int32.toUInt32 31)).toInt32) &&& (1431655765 : Int32))) &&& (858993459 : Int32)) + ((((a0 - (((a0.toUInt32 >>> ((1 : Int32).toUInt32 &&& Int32.toUInt32 31)).toInt32) &&& (1431655765 : Int32))).toUInt32 >>> ((2 : Int32).toUInt32 &&& Int32.toUInt32 31)).toInt32) &&& (858993459 : Int32))) + (((((a0 - (((a0.toUInt32 >>> ((1 : Int32).toUInt32 &&& Int32.toUInt32 31)).toInt32) &&& (1431655765 : Int32))) &&& (858993459 : Int32)) + ((((a0 - (((a0.toUInt32 >>> ((1 : Int32).toUInt32 &&& Int32.toUInt32 31)).toInt32) &&& (1431655765 : Int32))).toUInt32 >>> ((2 : Int32).toUInt32 &&& Int32.toUInt32 31)).toInt32) &&& (858993459 : Int32))).toUInt32 >>> ((4 : Int32).toUInt32 &&& Int32.toUInt32 31)).toInt32)) &&& (252645135 : Int32)).toUInt32 >>> ((8 : Int32).toUInt32 &&& Int32.toUInt32 31)).toInt32)) + ((((((((a0 - (((a0.toUInt32 >>> ((1 : Int32).toUInt32 &&& Int32.toUInt32 31)).toInt32) &&& (1431655765 : Int32))) &&& (858993459 : Int32)) + ((((a0 - (((a0.toUInt32 >>> ((1 : Int32).toUInt32 &&& Int32.toUInt32 31)).toInt32) &&& (1431655765 : Int32))).toUInt32 >>> ((2 : Int32).toUInt32 &&& Int32.toUInt32 31)).toInt32) &&& (858993459 : Int32))) + (((((a0 - (((a0.toUInt32 >>> ((1 : Int32).toUInt32 &&& Int32.toUInt32 31)).toInt32) &&& (1431655765 : Int32))) &&& (858993459 : Int32)) + ((((a0 - (((a0.toUInt32 >>> ((1 : Int32).toUInt32 &&& Int32.toUInt32 31)).toInt32) &&& (1431655765 : Int32))).toUInt32 >>> ((2 : Int32).toUInt32 &&& Int32.toUInt32 31)).toInt32) &&& (858993459 : Int32))).toUInt32 >>> ((4 : Int32).toUInt32 &&& Int32.toUInt32 31)).toInt32)) &&& (252645135 : Int32)) + (((((((a0 - (((a0.toUInt32 >>> ((1 : Int32).toUInt32 &&& Int32.toUInt32 31)).toInt32) &&& (1431655765 : Int32))) &&& (858993459 : Int32)) + ((((a0 - (((a0.toUInt32 >>> ((1 : Int32).toUInt32 &&& Int32.toUInt32 31)).toInt32) &&& (1431655765 : Int32))).toUInt32 >>> ((2 : Int32).toUInt32 &&& Int32.toUInt32 31)).toInt32) &&& (858993459 : Int32))) + (((((a0 - (((a0.toUInt32 >>> ((1 : Int32).toUInt32 &&& Int32.toUInt32 31)).toInt32) &&& (1431655765 : Int32))) &&& (858993459 : Int32)) + ((((a0 - (((a0.toUInt32 >>> ((1 : Int32).toUInt32 &&& Int32.toUInt32 31)).toInt32) &&& (1431655765 : Int32))).toUInt32 >>> ((2 : Int32).toUInt32 &&& Int32.toUInt32 31)).toInt32) &&& (858993459 : Int32))).toUInt32 >>> ((4 : Int32).toUInt32 &&& Int32.toUInt32 31)).toInt32)) &&& (252645135 : Int32)).toUInt32 >>> ((8 : Int32).toUInt32 &&& Int32.toUInt32 31)).toInt32)).toUInt32 >>> ((16 : Int32).toUInt32 &&& Int32.toUInt32 31)).toInt32)))]) dJ16_bitCount_47 rfl (so_le rfl) rfl ?_
  refine jr_iload_n dJ16_bitCount_48 rfl rfl ?_
  refine jr_bipush dJ16_bitCount_49 bp_63 ?_
  refine jr_iand dJ16_bitCount_51 ?_
  obtain rfl := hf
  exact jr_iret rfl rfl dJ16_bitCount_52
