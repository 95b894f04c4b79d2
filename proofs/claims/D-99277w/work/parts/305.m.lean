/-! printed: functions and walks -/
set_option maxRecDepth 100000
set_option linter.unusedVariables false
/- C:X13_sum -/
def fcX13_sum : Nat → Nat → so_St → Option ((Nat ⊕ Nat) × so_St)
  | 0 => fun _ _ => none
  | n + 1 => fX13_sum (fcX13_sum n)
theorem wcX13_sum : ∀ (n : Nat), ∀ (a0 : Nat) (S : so_St), a0 % 64 ∈ [5] → ∀ {res : Nat ⊕ Nat} {S' : so_St}, fcX13_sum n a0 S = some (res, S') → jx_Sp (9 * n) yX13_sum (ws_ yX13_sum cX13_sum 4 (Option.some (Jvm.ClassFile.FieldType.object "TunedHouses$Term"))) [.ref a0] S (so_or res) S' := by
  intro n
  induction n with
  | zero =>
    intros
    rename_i hf
    exact so_no hf
  | succ n ih =>
    exact fun a0 S k0 _ _ hf => wX13_sum ih a0 S k0 hf


/- X13_reads -/
abbrev kX13_reads : jx_K := (cX13_reads, 2, RX13, 109, (Option.some (Jvm.ClassFile.FieldType.object "TunedHouses$Term")), "reads", [])
def fX13_reads (a0 : Nat) (S : so_St) : Option ((Nat ⊕ Nat) × so_St) :=
  so_b3 (fcX13_sum 12 a0 S) (fun r1 S2 =>
  so_gd (decide (r1 % 64 ∈ [6, 7, 8, 9, 10, 11, 12, 20, 21])) fun _ =>
  so_b2 (fX9_sign a0 S2) fun r8 S9 =>
  if (so_I S9 a0 1) ≤ (so_I S9 a0 2) then
  (some (.inl r1, S9))
  else
  (so_b2 (fX9_wrong a0 S9) fun r12 S13 =>
  so_gd (decide (r12 % 64 ∈ [3])) fun _ =>
  some (.inr r12, S13)))
  (fun x3 S4 =>
  so_gd (decide (x3 % 64 ∈ [3])) fun _ =>
  some (.inr x3, S4))
set_option maxHeartbeats 4000000 in
set_option maxRecDepth 100000 in
theorem wX13_reads {res : Nat ⊕ Nat} {S' : so_St}  (a0 : Nat)  (S : so_St) (k_a0 : a0 % 64 ∈ [5]) (hf : fX13_reads a0 S = some (res, S')) : jx_Sp 109 yX13_reads (ws_ yX13_reads cX13_reads 2 (Option.some (Jvm.ClassFile.FieldType.object "TunedHouses$Term"))) [.ref a0] S (so_or res) S' := by
  refine jx_of (plainFor_of_name (by decide)) (so_le rfl) ?_
  show jg_ (S, S', so_or res) kX13_reads 0 [(0, .ref a0)] [] S
  unfold fX13_reads at hf
  refine jr_aload_n dX13_reads_0 rfl rfl jv_rr ?_
  rcases so_b3E hf with ⟨r1, S2, h5, hf⟩ | ⟨x3, S4, h5, hf⟩
  · obtain ⟨g_r1, hf⟩ := so_gdE hf
    refine jr_callM (st := []) lk_X13_9_5 (wcX13_sum 12 a0 S k_a0 h5) k_a0 rfl rfl rfl (so_le rfl) (so_le rfl) dX13_reads_1 ?_
    refine jr_astore_n (lv' := [(0, .ref a0), (1, .ref r1)]) dX13_reads_4 rfl (so_le rfl) jv_rr rfl ?_
    refine jr_aload_n dX13_reads_5 rfl rfl jv_rr ?_
    obtain ⟨r8, S9, h7, hf⟩ := so_b2E hf
    refine jr_callM (st := []) lk_X13_15_5 (wX9_sign a0 S2 (so_ms k_a0 rfl) h7) k_a0 rfl rfl rfl (so_le rfl) (so_le rfl) dX13_reads_6 ?_
    refine jr_pop dX13_reads_9 rfl ?_
    refine jr_aload_n dX13_reads_10 rfl rfl jv_rr ?_
    refine jr_getI fl_X13_19_5 k_a0 (so_n26 rfl) dX13_reads_11 ?_
    refine jr_aload_n dX13_reads_14 rfl rfl jv_rr ?_
    refine jr_getI fl_X13_23_5 k_a0 (so_n26 rfl) dX13_reads_15 ?_
    refine jr_icmp_ge (tgt := 26) dX13_reads_18 rfl (fun c10 => ?_) (fun c10 => ?_)
    · have hf := so_t c10 hf
      refine jr_aload_n dX13_reads_26 rfl rfl jv_rr ?_
      obtain ⟨rfl, rfl⟩ := so_e2 hf
      exact jr_aret rfl (Or.inl ⟨_, rfl⟩) jv_rr dX13_reads_27
    · have hf := so_f c10 hf
      refine jr_aload_n dX13_reads_21 rfl rfl jv_rr ?_
      obtain ⟨r12, S13, h11, hf⟩ := so_b2E hf
      obtain ⟨g14, hf⟩ := so_gdE hf
      refine jr_callM (st := []) lk_X13_26_5 (wX9_wrong a0 S9 (so_ms k_a0 rfl) h11) k_a0 rfl rfl rfl (so_le rfl) (so_le rfl) dX13_reads_22 ?_
      obtain ⟨rfl, rfl⟩ := so_e2 hf
      exact jr_athrow (so_n63 (of_decide_eq_true g14) rfl) dX13_reads_25 (jr_out (so_l29 (of_decide_eq_true g14) rfl).1 (so_l29 (of_decide_eq_true g14) rfl).2 rfl)
  · refine jr_callMX (st := []) lk_X13_9_5 (wcX13_sum 12 a0 S k_a0 h5) k_a0 rfl rfl rfl (so_le rfl) (so_le rfl) dX13_reads_1 ?_
    obtain ⟨g6, hf⟩ := so_gdE hf
    obtain ⟨rfl, rfl⟩ := so_e2 hf
    exact jr_out (so_l29 (of_decide_eq_true g6) rfl).1 (so_l29 (of_decide_eq_true g6) rfl).2 rfl

/- X1_law -/
abbrev kX1_law : jx_K := (cX1_law, 5, RX1, 110, (Option.some Jvm.ClassFile.FieldType.int), "law", tableOf [(28, 54, 61, 165), (28, 54, 75, 0), (61, 68, 75, 0), (75, 77, 75, 0)])
def fX1_law (a0 : Nat) (a1 : Int32) (S : so_St) : Option ((Int32 ⊕ Nat) × so_St) :=
  so_j (κ := Int32 → Option ((Int32 ⊕ Nat) × so_St)) (ρ := Option ((Int32 ⊕ Nat) × so_St)) (fun (v1 : Int32) =>
  so_b3 (fX1_need a0 v1 S) (fun r3 S4 =>
  so_let (so_sI S4 a0 16 (-1 : Int32)) fun S9 =>
  so_let (so_new S9 5 0 5) fun S10 =>
  (so_rk (so_R S10 a0 18) [51]).bind fun p11 =>
  (fX13_init (so_at S9 5) p11 a1 S10).bind fun S15 =>
  so_b3 (fX13_reads (so_at S9 5) S15) (fun r16 S17 =>
  so_gd (decide (r16 % 64 ∈ [6, 7, 8, 9, 10, 11, 12, 20, 21])) fun _ =>
  so_let (so_sR S17 a0 1 (some r16)) fun S26 =>
  so_let (so_sI S26 a0 15 (0 : Int32)) fun S27 =>
  some (.inl (1 : Int32), S27))
  (fun x18 S19 =>
  if x18 % 64 = 3 then
  (so_b2 (fX1_failed a0 x18 S19) fun r23 S24 =>
  so_let (so_sI S24 a0 15 (0 : Int32)) fun S25 =>
  some (.inl r23, S25))
  else
  none))
  (fun x5 S6 =>
  so_gd (decide (x5 % 64 ∈ [27])) fun _ =>
  some (.inr x5, S6)))
  (fun J2 =>
  so_j (κ := Unit → Option ((Int32 ⊕ Nat) × so_St)) (ρ := Option ((Int32 ⊕ Nat) × so_St)) (fun (_u : Unit) =>
  J2 (0 : Int32))
  (fun J28 =>
  if a1 < (0 : Int32) then
  (J28 ())
  else
  (if (so_I S a0 15) < a1 then
  (J28 ())
  else
  (if (150 : Int32) < a1 then
  (J28 ())
  else
  (J2 (1 : Int32))))))
set_option maxHeartbeats 4000000 in
set_option maxRecDepth 100000 in
theorem wX1_law {res : Int32 ⊕ Nat} {S' : so_St}  (a0 : Nat) (a1 : Int32)  (S : so_St) (k_a0 : a0 % 64 ∈ [0]) (hf : fX1_law a0 a1 S = some (res, S')) : jx_Sp 110 yX1_law (wsW_ yX1_law cX1_law 5 (Option.some Jvm.ClassFile.FieldType.int) [(28, 54, 61, 165), (28, 54, 75, 0), (61, 68, 75, 0), (75, 77, 75, 0)]) [.ref a0, .int a1] S (so_oi res) S' := by
  refine jx_ofW (by decide) (so_le rfl) ?_
  show jg_ (S, S', so_oi res) kX1_law 0 [(0, .ref a0), (1, .int a1)] [] S
  unfold fX1_law at hf
  refine jr_aload_n dX1_law_0 rfl rfl jv_rr ?_
  refine jr_iload_n dX1_law_1 rfl rfl ?_
  refine so_jE hf (fun J => ∀ (v1 : Int32), J v1 = some (res, S') → jg_ (S, S', so_oi res) kX1_law 25 [(0, .ref a0), (1, .int a1)] [.int v1, .ref a0] S) (fun v1 hf => ?_) (fun J2 hJ2 hf => ?_)
  · rcases so_b3E hf with ⟨r3, S4, h7, hf⟩ | ⟨x5, S6, h7, hf⟩
    · refine jr_callM (st := []) lk_X1_172_0 (wX1_need a0 v1 S k_a0 h7) k_a0 rfl rfl rfl (so_le rfl) (so_le rfl) dX1_law_25 ?_
      refine jr_aload_n dX1_law_28 rfl rfl jv_rr ?_
      refine jr_iconst dX1_law_29 ic_m1 ?_
      refine jr_putI fp_X1_69_0 k_a0 (so_n26 rfl) (fun h => by cases h) rfl rfl dX1_law_30 ?_
      refine so_let_e hf (fun S9 hf => ?_)
      refine jr_aload_n dX1_law_33 rfl rfl jv_rr ?_
      refine jr_new nw_X1_189 dX1_law_34 ?_
      refine so_let_e hf (fun S10 hf => ?_)
      refine jr_dup dX1_law_37 rfl ?_
      refine jr_aload_n dX1_law_38 rfl rfl jv_rr ?_
      refine jr_getR fl_X1_73_0 k_a0 (so_n26 rfl) dX1_law_39 ?_
      obtain ⟨p11, h12, hf⟩ := so_b hf
      obtain ⟨h12, k_p11⟩ := so_rk_s h12
      refine jr_rf h12 ?_
      refine jr_iload_n dX1_law_42 rfl rfl ?_
      obtain ⟨S15, h13, hf⟩ := so_b hf
      refine jr_call (st := [.ref (so_at S9 5), .ref a0]) lk_X1_191 (wX13_init (so_at S9 5) p11 a1 S10 (so_atk rfl) k_p11 h13) (jk_r1 (so_n63 (so_atk rfl) rfl)) rfl rfl (so_le rfl) (so_le rfl) dX1_law_43 ?_
      rcases so_b3E hf with ⟨r16, S17, h20, hf⟩ | ⟨x18, S19, h20, hf⟩
      · obtain ⟨g_r16, hf⟩ := so_gdE hf
        refine jr_callM (st := [.ref a0]) lk_X1_192_5 (wX13_reads (so_at S9 5) S15 (so_atk rfl) h20) (so_atk rfl) rfl rfl rfl (so_le rfl) (so_le rfl) dX1_law_46 ?_
        refine jr_putR (r := (some r16)) rfl fp_X1_30_0 k_a0 (so_n26 rfl) (fun h => by cases h) rfl dX1_law_49 ?_
        refine so_let_e hf (fun S26 hf => ?_)
        refine jr_iconst dX1_law_52 ic_1 ?_
        refine jr_istore_n (lv' := [(0, .ref a0), (1, .int a1), (2, .int (1 : Int32))]) dX1_law_53 rfl (so_le rfl) rfl ?_
        refine jr_aload_n dX1_law_54 rfl rfl jv_rr ?_
        refine jr_iconst dX1_law_55 ic_0 ?_
        refine jr_putI fp_X1_158_0 k_a0 (so_n26 rfl) (fun h => by cases h) rfl rfl dX1_law_56 ?_
        refine so_let_e hf (fun S27 hf => ?_)
        refine jr_iload_n dX1_law_59 rfl rfl ?_
        obtain ⟨rfl, rfl⟩ := so_e2 hf
        exact jr_iret rfl rfl dX1_law_60
      · refine jr_callMX (st := [.ref a0]) lk_X1_192_5 (wX13_reads (so_at S9 5) S15 (so_atk rfl) h20) (so_atk rfl) rfl rfl rfl (so_le rfl) (so_le rfl) dX1_law_46 ?_
        by_cases c21 : x18 % 64 = 3
        · have hf := so_t c21 hf
          refine jr_catch (by rw [c21]; decide) (by rw [c21]; decide) [] ⟨28, 54, 61, 165⟩ [(⟨28, 54, 75, 0⟩ : ExceptionTableEntry), (⟨61, 68, 75, 0⟩ : ExceptionTableEntry), (⟨75, 77, 75, 0⟩ : ExceptionTableEntry)] rfl (fun _ h => by cases h) rfl (by decide) q868 (by rw [c21]; exact q1065) ?_
          refine jr_astore_n (lv' := [(0, .ref a0), (1, .int a1), (2, .ref x18)]) dX1_law_61 rfl (so_le rfl) jv_rr rfl ?_
          refine jr_aload_n dX1_law_62 rfl rfl jv_rr ?_
          refine jr_aload_n dX1_law_63 rfl rfl jv_rr ?_
          obtain ⟨r23, S24, h22, hf⟩ := so_b2E hf
          refine jr_callM (st := []) lk_X1_185_0 (wX1_failed a0 x18 S19 k_a0 (so_i1 c21) h22) k_a0 rfl rfl rfl (so_le rfl) (so_le rfl) dX1_law_64 ?_
          refine jr_istore_n (lv' := [(0, .ref a0), (1, .int a1), (2, .ref x18), (3, .int r23)]) dX1_law_67 rfl (so_le rfl) rfl ?_
          refine jr_aload_n dX1_law_68 rfl rfl jv_rr ?_
          refine jr_iconst dX1_law_69 ic_0 ?_
          refine jr_putI fp_X1_158_0 k_a0 (so_n26 rfl) (fun h => by cases h) rfl rfl dX1_law_70 ?_
          refine so_let_e hf (fun S25 hf => ?_)
          refine jr_iload_n dX1_law_73 rfl rfl ?_
          obtain ⟨rfl, rfl⟩ := so_e2 hf
          exact jr_iret rfl rfl dX1_law_74
        · have hf := so_f c21 hf
          exact so_no hf
    · refine jr_callMX (st := []) lk_X1_172_0 (wX1_need a0 v1 S k_a0 h7) k_a0 rfl rfl rfl (so_le rfl) (so_le rfl) dX1_law_25 ?_
      obtain ⟨g8, hf⟩ := so_gdE hf
      obtain ⟨rfl, rfl⟩ := so_e2 hf
      exact jr_out (so_l29 (of_decide_eq_true g8) rfl).1 (so_l29 (of_decide_eq_true g8) rfl).2 rfl
  · refine so_jE hf (fun J => ∀ (u0 : Unit), J u0 = some (res, S') → jg_ (S, S', so_oi res) kX1_law 24 [(0, .ref a0), (1, .int a1)] [.ref a0] S) (fun _u hf => ?_) (fun J28 hJ28 hf => ?_)
    · refine jr_iconst dX1_law_24 ic_0 ?_
      exact hJ2 (0 : Int32) hf
    · refine jr_if_lt (tgt := 24) dX1_law_2 rfl (fun c29 => ?_) (fun c29 => ?_)
      · have hf := so_t c29 hf
        exact hJ28 () hf
      · have hf := so_f c29 hf
        refine jr_iload_n dX1_law_5 rfl rfl ?_
        refine jr_aload_n dX1_law_6 rfl rfl jv_rr ?_
        refine jr_getI fl_X1_158_0 k_a0 (so_n26 rfl) dX1_law_7 ?_
        refine jr_icmp_gt (tgt := 24) dX1_law_10 rfl (fun c30 => ?_) (fun c30 => ?_)
        · have hf := so_t c30 hf
          exact hJ28 () hf
        · have hf := so_f c30 hf
          refine jr_iload_n dX1_law_13 rfl rfl ?_
          refine jr_sipush dX1_law_14 sp_150 ?_
          refine jr_icmp_gt (tgt := 24) dX1_law_17 rfl (fun c31 => ?_) (fun c31 => ?_)
          · have hf := so_t c31 hf
            exact hJ28 () hf
          · have hf := so_f c31 hf
            refine jr_iconst dX1_law_20 ic_1 ?_
            refine jr_goto (tgt := 25) dX1_law_21 rfl ?_
            exact hJ2 (1 : Int32) hf

/- X0_law -/
abbrev kX0_law : jx_K := (cX0_law, 4, RX0, 111, (Option.some Jvm.ClassFile.FieldType.int), "law", tableOf [(0, 9, 12, 13)])
def fX0_law (a0 : Nat) (a1 : Int32) (a2 : Nat) (S : so_St) : Option (Int32 × so_St) :=
  so_b3 (fX1_law a0 a1 S) (fun r1 S2 =>
  so_gd (so_in (0 : Int32) (so_l S2 a2)) fun _ =>
  so_let (so_sL S2 a2 (0 : Int32).toNatClampNeg r1.toInt64) fun S8 =>
  some ((0 : Int32), S8))
  (fun x3 S4 =>
  if x3 % 64 = 27 then
  (some ((1 : Int32), S4))
  else
  none)
set_option maxHeartbeats 4000000 in
set_option maxRecDepth 100000 in
theorem wX0_law {res : Int32} {S' : so_St}  (a0 : Nat) (a1 : Int32) (a2 : Nat)  (S : so_St) (k_a0 : a0 % 64 ∈ [0]) (k_a2 : a2 % 64 ∈ [53]) (hf : fX0_law a0 a1 a2 S = some (res, S')) : jx_Sp 111 yX0_law (wsW_ yX0_law cX0_law 4 (Option.some Jvm.ClassFile.FieldType.int) [(0, 9, 12, 13)]) [.ref a0, .int a1, .ref a2] S (.inl (some (.int res))) S' := by
  refine jx_ofW (by decide) (so_le rfl) ?_
  show jg_ (S, S', .inl (some (.int res))) kX0_law 0 [(0, .ref a0), (1, .int a1), (2, .ref a2)] [] S
  unfold fX0_law at hf
  refine jr_aload_n dX0_law_0 rfl rfl jv_rr ?_
  refine jr_iconst dX0_law_1 ic_0 ?_
  refine jr_aload_n dX0_law_2 rfl rfl jv_rr ?_
  refine jr_iload_n dX0_law_3 rfl rfl ?_
  rcases so_b3E hf with ⟨r1, S2, h5, hf⟩ | ⟨x3, S4, h5, hf⟩
  · refine jr_callM (st := [.int (0 : Int32), .ref a2]) lk_X0_15_0 (wX1_law a0 a1 S k_a0 h5) k_a0 rfl rfl rfl (so_le rfl) (so_le rfl) dX0_law_4 ?_
    refine jr_i2l dX0_law_7 ?_
    obtain ⟨g7, hf⟩ := so_gdE hf
    refine jr_lastore (so_m1 k_a2) (so_inE g7) dX0_law_8 ?_
    refine so_let_e hf (fun S8 hf => ?_)
    refine jr_goto (tgt := 15) dX0_law_9 rfl ?_
    refine jr_iconst dX0_law_15 ic_0 ?_
    obtain ⟨rfl, rfl⟩ := so_e2 hf
    exact jr_iret rfl rfl dX0_law_16
  · refine jr_callMX (st := [.int (0 : Int32), .ref a2]) lk_X0_15_0 (wX1_law a0 a1 S k_a0 h5) k_a0 rfl rfl rfl (so_le rfl) (so_le rfl) dX0_law_4 ?_
    by_cases c6 : x3 % 64 = 27
    · have hf := so_t c6 hf
      refine jr_catch (by rw [c6]; decide) (by rw [c6]; decide) [] ⟨0, 9, 12, 13⟩ [] rfl (fun _ h => by cases h) rfl (by decide) q863 (by rw [c6]; exact q181) ?_
      refine jr_astore_n (lv' := [(0, .ref a0), (1, .int a1), (2, .ref a2), (3, .ref x3)]) dX0_law_12 rfl (so_le rfl) jv_rr rfl ?_
      refine jr_iconst dX0_law_13 ic_1 ?_
      obtain ⟨rfl, rfl⟩ := so_e2 hf
      exact jr_iret rfl rfl dX0_law_14
    · have hf := so_f c6 hf
      exact so_no hf

/- X21_init -/
abbrev kX21_init : jx_K := (cX21_init, 4, RX21, 2, (Option.none : Option Jvm.ClassFile.FieldType), "<init>", [])
def fX21_init (a0 : Nat) (a1 : Nat) (a2 : Int32) (a3 : Nat) (S : so_St) : Option so_St :=
  (fX9_init a0 a1 a2 S).bind fun S3 =>
  so_let (so_sR S3 a0 5 (some a3)) fun S4 =>
  some S4
set_option maxHeartbeats 4000000 in
set_option maxRecDepth 100000 in
theorem wX21_init {S' : so_St}  (a0 : Nat) (a1 : Nat) (a2 : Int32) (a3 : Nat)  (S : so_St) (k_a0 : a0 % 64 ∈ [13]) (k_a1 : a1 % 64 ∈ [51]) (k_a3 : a3 % 64 ∈ [1]) (hf : fX21_init a0 a1 a2 a3 S = some S') : jx_Sp 2 yX21_init (ws_ yX21_init cX21_init 4 (Option.none : Option Jvm.ClassFile.FieldType)) [.ref a0, .ref a1, .int a2, .ref a3] S (.inl none) S' := by
  refine jx_of (plainFor_of_name (by decide)) (so_le rfl) ?_
  show jg_ (S, S', .inl none) kX21_init 0 [(0, .ref a0), (1, .ref a1), (2, .int a2), (3, .ref a3)] [] S
  unfold fX21_init at hf
  refine jr_aload_n dX21_init_0 rfl rfl jv_rr ?_
  refine jr_aload_n dX21_init_1 rfl rfl jv_rr ?_
  refine jr_iload_n dX21_init_2 rfl rfl ?_
  obtain ⟨S3, h1, hf⟩ := so_b hf
  refine jr_call (st := []) lk_X21_3 (wX9_init a0 a1 a2 S (so_ms k_a0 rfl) k_a1 h1) (jk_r1 (so_n63 k_a0 rfl)) rfl rfl (so_le rfl) (so_le rfl) dX21_init_3 ?_
  refine jr_aload_n dX21_init_6 rfl rfl jv_rr ?_
  refine jr_aload_n dX21_init_7 rfl rfl jv_rr ?_
  refine jr_putR (r := (some a3)) rfl fp_X21_9_13 k_a0 (so_n26 rfl) (fun _ => rfl) rfl dX21_init_8 ?_
  refine so_let_e hf (fun S4 hf => ?_)
  obtain rfl := so_e1 hf
  exact jr_vret rfl dX21_init_11

/- X22_init -/
abbrev kX22_init : jx_K := (cX22_init, 1, RX22, 1, (Option.none : Option Jvm.ClassFile.FieldType), "<init>", [])
def fX22_init (a0 : Nat) : Unit :=
  ()
set_option maxHeartbeats 4000000 in
set_option maxRecDepth 100000 in
theorem wX22_init  (a0 : Nat)  (S : so_St) (k_a0 : a0 % 64 ∈ [14, 15, 16, 17, 18]) (hf : fX22_init a0 = ()) : jx_Sp 1 yX22_init (ws_ yX22_init cX22_init 1 (Option.none : Option Jvm.ClassFile.FieldType)) [.ref a0] S (.inl none) S := by
  refine jx_of (plainFor_of_name (by decide)) (so_le rfl) ?_
  show jg_ (S, S, .inl none) kX22_init 0 [(0, .ref a0)] [] S
  unfold fX22_init at hf
  refine jr_aload_n dX22_init_0 rfl rfl jv_rr ?_
  refine jr_objInit (so_n63 k_a0 rfl) q1423 q155 q156 (so_le rfl) (so_le rfl) dX22_init_1 ?_
  exact jr_vret rfl dX22_init_4

/- X28_init -/
abbrev kX28_init : jx_K := (cX28_init, 2, RX28, 4, (Option.none : Option Jvm.ClassFile.FieldType), "<init>", [])
def fX28_init (a0 : Nat) (a1 : Int32) (S : so_St) : Option so_St :=
  so_let (so_new S 24 0 3) fun S1 =>
  (fJ2_init (so_at S 24) (1 : Int32) S1).bind fun S4 =>
  so_let (so_sR S4 a0 1 (some (so_at S 24))) fun S5 =>
  so_let (so_sI S5 a0 0 a1) fun S6 =>
  some S6
set_option maxHeartbeats 4000000 in
set_option maxRecDepth 100000 in
theorem wX28_init {S' : so_St}  (a0 : Nat) (a1 : Int32)  (S : so_St) (k_a0 : a0 % 64 ∈ [18]) (hf : fX28_init a0 a1 S = some S') : jx_Sp 4 yX28_init (ws_ yX28_init cX28_init 2 (Option.none : Option Jvm.ClassFile.FieldType)) [.ref a0, .int a1] S (.inl none) S' := by
  refine jx_of (plainFor_of_name (by decide)) (so_le rfl) ?_
  show jg_ (S, S', .inl none) kX28_init 0 [(0, .ref a0), (1, .int a1)] [] S
  unfold fX28_init at hf
  refine jr_aload_n dX28_init_0 rfl rfl jv_rr ?_
  refine jr_call (st := []) lk_X28_3 (wX22_init a0 S (so_ms k_a0 rfl) rfl) (jk_r1 (so_n63 k_a0 rfl)) rfl rfl (so_le rfl) (so_le rfl) dX28_init_1 ?_
  refine jr_aload_n dX28_init_4 rfl rfl jv_rr ?_
  refine jr_new nw_X28_9 dX28_init_5 ?_
  refine so_let_e hf (fun S1 hf => ?_)
  refine jr_dup dX28_init_8 rfl ?_
  refine jr_iconst dX28_init_9 ic_1 ?_
  obtain ⟨S4, h2, hf⟩ := so_b hf
  refine jr_call (st := [.ref (so_at S 24), .ref a0]) lk_X28_11 (wJ2_init (so_at S 24) (1 : Int32) S1 (so_atk rfl) h2) (jk_r1 (so_n63 (so_atk rfl) rfl)) rfl rfl (so_le rfl) (so_le rfl) dX28_init_10 ?_
  refine jr_putR (r := (some (so_at S 24))) rfl fp_X28_14_18 k_a0 (so_n26 rfl) (fun _ => rfl) rfl dX28_init_13 ?_
  refine so_let_e hf (fun S5 hf => ?_)
  refine jr_aload_n dX28_init_16 rfl rfl jv_rr ?_
  refine jr_iload_n dX28_init_17 rfl rfl ?_
  refine jr_putI fp_X28_20_18 k_a0 (so_n26 rfl) (fun _ => rfl) rfl rfl dX28_init_18 ?_
  refine so_let_e hf (fun S6 hf => ?_)
  obtain rfl := so_e1 hf
  exact jr_vret rfl dX28_init_21

/- X21_again -/
abbrev kX21_again (d0 : Nat) : jx_K := (cX21_again, 2, RX21, d0 + 7, (Option.some (Jvm.ClassFile.FieldType.object "TunedHouses$Step")), "again", [])
def LX21_again_26 (rec : Nat → so_St → Option ((Nat ⊕ Nat) × so_St)) (f0 : Nat) (f1 : Nat) (k50 : so_St → Option ((Nat ⊕ Nat) × so_St)) : Nat → so_St → Option ((Nat ⊕ Nat) × so_St)
  | 0, _ => none
  | n + 1, S23 =>
    so_b2 (fX9_sign f0 S23) fun r25 S26 =>
    if r25 = (93 : Int32) then
    (k50 S26)
    else
    ((so_rk (so_R S26 f1 1) [24]).bind fun p28 =>
    so_b3 (rec f0 S26) (fun r30 S31 =>
    so_gd (decide (r30 % 64 ∈ [14, 15, 16, 17, 18])) fun _ =>
    so_b2 (fJ2_add p28 r30 S31) fun r37 S38 =>
    LX21_again_26 rec f0 f1 k50 n S38)
    (fun x32 S33 =>
    so_gd (decide (x32 % 64 ∈ [3])) fun _ =>
    some (.inr x32, S33)))
set_option maxHeartbeats 4000000 in
set_option maxRecDepth 100000 in
theorem wX21_again_26 {d0 : Nat} {res : Nat ⊕ Nat} {S' : so_St} {S0 : so_St}  {rec : Nat → so_St → Option ((Nat ⊕ Nat) × so_St)} (hrec : ∀ (a0 : Nat) (S : so_St), a0 % 64 ∈ [13] → ∀ {res : Nat ⊕ Nat} {S' : so_St}, rec a0 S = some (res, S') → jx_Sp d0 yX21_step (ws_ yX21_step cX21_step 5 (Option.some (Jvm.ClassFile.FieldType.object "TunedHouses$Step"))) [.ref a0] S (so_or res) S') (f0 : Nat) (f1 : Nat)   (k_f0 : f0 % 64 ∈ [13]) (k_f1 : f1 % 64 ∈ [18]) (k50 : so_St → Option ((Nat ⊕ Nat) × so_St)) (h50 : ∀ (S39 : so_St), k50 S39 = some (res, S') → jg_ (S0, S', so_or res) (kX21_again d0) 50 [(0, .ref f0), (1, .ref f1)] [] S39) : ∀ (n : Nat) (S23 : so_St), LX21_again_26 rec f0 f1 k50 n S23 = some (res, S') → jg_ (S0, S', so_or res) (kX21_again d0) 26 [(0, .ref f0), (1, .ref f1)] [] S23 := by
  intro n
  induction n with
  | zero =>
    intro S23 hf
    exact so_no hf
  | succ n ih =>
    intro S23 hf
    rw [LX21_again_26] at hf
    refine jr_aload_n dX21_again_26 rfl rfl jv_rr ?_
    obtain ⟨r25, S26, h24, hf⟩ := so_b2E hf
    refine jr_callM (st := []) lk_X21_20_13 (wX9_sign f0 S23 (so_ms k_f0 rfl) h24) k_f0 rfl rfl rfl (so_le rfl) (show 0 + 1 ≤ d0 + 7 by omega) dX21_again_27 ?_
    refine jr_bipush dX21_again_30 bp_93 ?_
    refine jr_icmp_eq (tgt := 50) dX21_again_32 rfl (fun c27 => ?_) (fun c27 => ?_)
    · have hf := so_t c27 hf
      exact h50 S26 hf
    · have hf := so_f c27 hf
      refine jr_aload_n dX21_again_35 rfl rfl jv_rr ?_
      refine jr_getR fl_X21_117_18 k_f1 (so_n26 rfl) dX21_again_36 ?_
      obtain ⟨p28, h29, hf⟩ := so_b hf
      obtain ⟨h29, k_p28⟩ := so_rk_s h29
      refine jr_rf h29 ?_
      refine jr_aload_n dX21_again_39 rfl rfl jv_rr ?_
      rcases so_b3E hf with ⟨r30, S31, h34, hf⟩ | ⟨x32, S33, h34, hf⟩
      · obtain ⟨g_r30, hf⟩ := so_gdE hf
        refine jr_callM (st := [.ref p28]) lk_X21_31_13 (hrec f0 S26 k_f0 h34) k_f0 rfl rfl rfl (so_le rfl) (show d0 + 0 + 1 ≤ d0 + 7 by omega) dX21_again_40 ?_
        obtain ⟨r37, S38, h36, hf⟩ := so_b2E hf
        refine jr_callM (st := []) lk_X21_35_24 (wJ2_add p28 r30 S31 k_p28 (so_ms (of_decide_eq_true g_r30) rfl) h36) k_p28 rfl rfl rfl (so_le rfl) (show 6 + 1 ≤ d0 + 7 by omega) dX21_again_43 ?_
        refine jr_pop dX21_again_46 rfl ?_
        refine jr_goto (tgt := 26) dX21_again_47 rfl ?_
        exact ih S38 hf
      · refine jr_callMX (st := [.ref p28]) lk_X21_31_13 (hrec f0 S26 k_f0 h34) k_f0 rfl rfl rfl (so_le rfl) (show d0 + 0 + 1 ≤ d0 + 7 by omega) dX21_again_40 ?_
        obtain ⟨g35, hf⟩ := so_gdE hf
        obtain ⟨rfl, rfl⟩ := so_e2 hf
        exact jr_out (so_l29 (of_decide_eq_true g35) rfl).1 (so_l29 (of_decide_eq_true g35) rfl).2 rfl
def fX21_again (rec : Nat → so_St → Option ((Nat ⊕ Nat) × so_St)) (a0 : Nat) (S : so_St) : Option ((Nat ⊕ Nat) × so_St) :=
  so_b3 (fX9_opens a0 (5 : Int32) S) (fun r1 S2 =>
  so_let (so_new S2 18 0 2) fun S7 =>
  so_b3 (fX9_number a0 (0 : Int32) (60 : Int32) S7) (fun r8 S9 =>
  (fX28_init (so_at S2 18) r8 S9).bind fun S16 =>
  so_b3 (fX9_need a0 (91 : Int32) S16) (fun r17 S18 =>
  LX21_again_26 rec a0 (so_at S2 18) (fun (S40 : so_St) =>
  so_let (so_sI S40 a0 2 ((so_I S40 a0 2) + (1 : Int32))) fun S41 =>
  so_let (so_sI S41 a0 4 ((so_I S41 a0 4) - (1 : Int32))) fun S42 =>
  some (.inl (so_at S2 18), S42)) so_N S18)
  (fun x19 S20 =>
  so_gd (decide (x19 % 64 ∈ [3])) fun _ =>
  some (.inr x19, S20)))
  (fun x10 S11 =>
  so_gd (decide (x10 % 64 ∈ [3])) fun _ =>
  some (.inr x10, S11)))
  (fun x3 S4 =>
  so_gd (decide (x3 % 64 ∈ [3])) fun _ =>
  some (.inr x3, S4))
set_option maxHeartbeats 4000000 in
set_option maxRecDepth 100000 in
theorem wX21_again {d0 : Nat} {res : Nat ⊕ Nat} {S' : so_St} {rec : Nat → so_St → Option ((Nat ⊕ Nat) × so_St)} (hrec : ∀ (a0 : Nat) (S : so_St), a0 % 64 ∈ [13] → ∀ {res : Nat ⊕ Nat} {S' : so_St}, rec a0 S = some (res, S') → jx_Sp d0 yX21_step (ws_ yX21_step cX21_step 5 (Option.some (Jvm.ClassFile.FieldType.object "TunedHouses$Step"))) [.ref a0] S (so_or res) S') (a0 : Nat)  (S : so_St) (k_a0 : a0 % 64 ∈ [13]) (hf : fX21_again rec a0 S = some (res, S')) : jx_Sp (d0 + 7) yX21_again (ws_ yX21_again cX21_again 2 (Option.some (Jvm.ClassFile.FieldType.object "TunedHouses$Step"))) [.ref a0] S (so_or res) S' := by
  refine jx_of (plainFor_of_name (by decide)) (so_le rfl) ?_
  show jg_ (S, S', so_or res) (kX21_again d0) 0 [(0, .ref a0)] [] S
  unfold fX21_again at hf
  refine jr_aload_n dX21_again_0 rfl rfl jv_rr ?_
  refine jr_iconst dX21_again_1 ic_5 ?_
  rcases so_b3E hf with ⟨r1, S2, h5, hf⟩ | ⟨x3, S4, h5, hf⟩
  · refine jr_callM (st := []) lk_X21_111_13 (wX9_opens a0 (5 : Int32) S (so_ms k_a0 rfl) h5) k_a0 rfl rfl rfl (so_le rfl) (show 4 + 1 ≤ d0 + 7 by omega) dX21_again_2 ?_
    refine jr_new nw_X21_114 dX21_again_5 ?_
    refine so_let_e hf (fun S7 hf => ?_)
    refine jr_dup dX21_again_8 rfl ?_
    refine jr_aload_n dX21_again_9 rfl rfl jv_rr ?_
    refine jr_iconst dX21_again_10 ic_0 ?_
    refine jr_bipush dX21_again_11 bp_60 ?_
    rcases so_b3E hf with ⟨r8, S9, h12, hf⟩ | ⟨x10, S11, h12, hf⟩
    · refine jr_callM (st := [.ref (so_at S2 18), .ref (so_at S2 18)]) lk_X21_47_13 (wX9_number a0 (0 : Int32) (60 : Int32) S7 (so_ms k_a0 rfl) h12) k_a0 rfl rfl rfl (so_le rfl) (show 5 + 1 ≤ d0 + 7 by omega) dX21_again_13 ?_
      obtain ⟨S16, h14, hf⟩ := so_b hf
      refine jr_call (st := [.ref (so_at S2 18)]) lk_X21_116 (wX28_init (so_at S2 18) r8 S9 (so_atk rfl) h14) (jk_r1 (so_n63 (so_atk rfl) rfl)) rfl rfl (so_le rfl) (show 4 + 1 ≤ d0 + 7 by omega) dX21_again_16 ?_
      refine jr_astore_n (lv' := [(0, .ref a0), (1, .ref (so_at S2 18))]) dX21_again_19 rfl (so_le rfl) jv_rr rfl ?_
      refine jr_aload_n dX21_again_20 rfl rfl jv_rr ?_
      refine jr_bipush dX21_again_21 bp_91 ?_
      rcases so_b3E hf with ⟨r17, S18, h21, hf⟩ | ⟨x19, S20, h21, hf⟩
      · refine jr_callM (st := []) lk_X21_86_13 (wX9_need a0 (91 : Int32) S16 (so_ms k_a0 rfl) h21) k_a0 rfl rfl rfl (so_le rfl) (show 5 + 1 ≤ d0 + 7 by omega) dX21_again_23 ?_
        refine wX21_again_26 hrec a0 (so_at S2 18) k_a0 (so_atk rfl) _ (fun S40 hf => ?_) so_N S18 hf
        refine jr_aload_n dX21_again_50 rfl rfl jv_rr ?_
        refine jr_dup dX21_again_51 rfl ?_
        refine jr_getI fl_X21_24_13 k_a0 (so_n26 rfl) dX21_again_52 ?_
        refine jr_iconst dX21_again_55 ic_1 ?_
        refine jr_iadd dX21_again_56 ?_
        refine jr_putI fp_X21_24_13 k_a0 (so_n26 rfl) (fun h => by cases h) rfl rfl dX21_again_57 ?_
        refine so_let_e hf (fun S41 hf => ?_)
        refine jr_aload_n dX21_again_60 rfl rfl jv_rr ?_
        refine jr_dup dX21_again_61 rfl ?_
        refine jr_getI fl_X21_120_13 k_a0 (so_n26 rfl) dX21_again_62 ?_
        refine jr_iconst dX21_again_65 ic_1 ?_
        refine jr_isub dX21_again_66 ?_
        refine jr_putI fp_X21_120_13 k_a0 (so_n26 rfl) (fun h => by cases h) rfl rfl dX21_again_67 ?_
        refine so_let_e hf (fun S42 hf => ?_)
        refine jr_aload_n dX21_again_70 rfl rfl jv_rr ?_
        obtain ⟨rfl, rfl⟩ := so_e2 hf
        exact jr_aret rfl (Or.inl ⟨_, rfl⟩) jv_rr dX21_again_71
      · refine jr_callMX (st := []) lk_X21_86_13 (wX9_need a0 (91 : Int32) S16 (so_ms k_a0 rfl) h21) k_a0 rfl rfl rfl (so_le rfl) (show 5 + 1 ≤ d0 + 7 by omega) dX21_again_23 ?_
        obtain ⟨g22, hf⟩ := so_gdE hf
        obtain ⟨rfl, rfl⟩ := so_e2 hf
        exact jr_out (so_l29 (of_decide_eq_true g22) rfl).1 (so_l29 (of_decide_eq_true g22) rfl).2 rfl
    · refine jr_callMX (st := [.ref (so_at S2 18), .ref (so_at S2 18)]) lk_X21_47_13 (wX9_number a0 (0 : Int32) (60 : Int32) S7 (so_ms k_a0 rfl) h12) k_a0 rfl rfl rfl (so_le rfl) (show 5 + 1 ≤ d0 + 7 by omega) dX21_again_13 ?_
      obtain ⟨g13, hf⟩ := so_gdE hf
      obtain ⟨rfl, rfl⟩ := so_e2 hf
      exact jr_out (so_l29 (of_decide_eq_true g13) rfl).1 (so_l29 (of_decide_eq_true g13) rfl).2 rfl
  · refine jr_callMX (st := []) lk_X21_111_13 (wX9_opens a0 (5 : Int32) S (so_ms k_a0 rfl) h5) k_a0 rfl rfl rfl (so_le rfl) (show 4 + 1 ≤ d0 + 7 by omega) dX21_again_2 ?_
    obtain ⟨g6, hf⟩ := so_gdE hf
    obtain ⟨rfl, rfl⟩ := so_e2 hf
    exact jr_out (so_l29 (of_decide_eq_true g6) rfl).1 (so_l29 (of_decide_eq_true g6) rfl).2 rfl

/- X21_piano -/
abbrev kX21_piano : jx_K := (cX21_piano, 1, RX21, 6, (Option.some Jvm.ClassFile.FieldType.int), "piano", [])
def fX21_piano (a0 : Nat) (S : so_St) : Option ((Int32 ⊕ Nat) × so_St) :=
  (so_rk (so_R S a0 5) [1]).bind fun p1 =>
  (so_rk (so_R S p1 5) [24]).bind fun p3 =>
  (fJ2_size p3 S).bind fun r6 =>
  so_b3 (fX9_number a0 (0 : Int32) (r6 - (1 : Int32)) S) (fun r7 S8 =>
  some (.inl r7, S8))
  (fun x9 S10 =>
  so_gd (decide (x9 % 64 ∈ [3])) fun _ =>
  some (.inr x9, S10))
set_option maxHeartbeats 4000000 in
set_option maxRecDepth 100000 in
theorem wX21_piano {res : Int32 ⊕ Nat} {S' : so_St}  (a0 : Nat)  (S : so_St) (k_a0 : a0 % 64 ∈ [13]) (hf : fX21_piano a0 S = some (res, S')) : jx_Sp 6 yX21_piano (ws_ yX21_piano cX21_piano 1 (Option.some Jvm.ClassFile.FieldType.int)) [.ref a0] S (so_oi res) S' := by
  refine jx_of (plainFor_of_name (by decide)) (so_le rfl) ?_
  show jg_ (S, S', so_oi res) kX21_piano 0 [(0, .ref a0)] [] S
  unfold fX21_piano at hf
  refine jr_aload_n dX21_piano_0 rfl rfl jv_rr ?_
  refine jr_iconst dX21_piano_1 ic_0 ?_
  refine jr_aload_n dX21_piano_2 rfl rfl jv_rr ?_
  refine jr_getR fl_X21_9_13 k_a0 (so_n26 rfl) dX21_piano_3 ?_
  obtain ⟨p1, h2, hf⟩ := so_b hf
  obtain ⟨h2, k_p1⟩ := so_rk_s h2
  refine jr_rf h2 ?_
  refine jr_getR fl_X21_39_1 k_p1 (so_n26 rfl) dX21_piano_6 ?_
  obtain ⟨p3, h4, hf⟩ := so_b hf
  obtain ⟨h4, k_p3⟩ := so_rk_s h4
  refine jr_rf h4 ?_
  obtain ⟨r6, h5, hf⟩ := so_b hf
  refine jr_callM (st := [.int (0 : Int32), .ref a0]) lk_X21_45_24 (wJ2_size p3 S k_p3 h5) k_p3 rfl rfl rfl (so_le rfl) (so_le rfl) dX21_piano_9 ?_
  refine jr_iconst dX21_piano_12 ic_1 ?_
  refine jr_isub dX21_piano_13 ?_
  rcases so_b3E hf with ⟨r7, S8, h11, hf⟩ | ⟨x9, S10, h11, hf⟩
  · refine jr_callM (st := []) lk_X21_47_13 (wX9_number a0 (0 : Int32) (r6 - (1 : Int32)) S (so_ms k_a0 rfl) h11) k_a0 rfl rfl rfl (so_le rfl) (so_le rfl) dX21_piano_14 ?_
    obtain ⟨rfl, rfl⟩ := so_e2 hf
    exact jr_iret rfl rfl dX21_piano_17
  · refine jr_callMX (st := []) lk_X21_47_13 (wX9_number a0 (0 : Int32) (r6 - (1 : Int32)) S (so_ms k_a0 rfl) h11) k_a0 rfl rfl rfl (so_le rfl) (so_le rfl) dX21_piano_14 ?_
    obtain ⟨g12, hf⟩ := so_gdE hf
    obtain ⟨rfl, rfl⟩ := so_e2 hf
    exact jr_out (so_l29 (of_decide_eq_true g12) rfl).1 (so_l29 (of_decide_eq_true g12) rfl).2 rfl

/- X23_init -/
abbrev kX23_init : jx_K := (cX23_init, 1, RX23, 2, (Option.none : Option Jvm.ClassFile.FieldType), "<init>", [])
def fX23_init (a0 : Nat) : Unit :=
  ()
set_option maxHeartbeats 4000000 in
set_option maxRecDepth 100000 in
theorem wX23_init  (a0 : Nat)  (S : so_St) (k_a0 : a0 % 64 ∈ [14, 15, 16, 17]) (hf : fX23_init a0 = ()) : jx_Sp 2 yX23_init (ws_ yX23_init cX23_init 1 (Option.none : Option Jvm.ClassFile.FieldType)) [.ref a0] S (.inl none) S := by
  refine jx_of (plainFor_of_name (by decide)) (so_le rfl) ?_
  show jg_ (S, S, .inl none) kX23_init 0 [(0, .ref a0)] [] S
  unfold fX23_init at hf
  refine jr_aload_n dX23_init_0 rfl rfl jv_rr ?_
  refine jr_call (st := []) lk_X23_1 (wX22_init a0 S (so_ms k_a0 rfl) rfl) (jk_r1 (so_n63 k_a0 rfl)) rfl rfl (so_le rfl) (so_le rfl) dX23_init_1 ?_
  exact jr_vret rfl dX23_init_4

/- X26_init -/
abbrev kX26_init : jx_K := (cX26_init, 3, RX26, 3, (Option.none : Option Jvm.ClassFile.FieldType), "<init>", [])
def fX26_init (a0 : Nat) (a1 : Int32) (a2 : Int32) (S : so_St) : Option so_St :=
  so_let (so_sI S a0 0 a1) fun S1 =>
  so_let (so_sI S1 a0 1 a2) fun S2 =>
  some S2
set_option maxHeartbeats 4000000 in
set_option maxRecDepth 100000 in
theorem wX26_init {S' : so_St}  (a0 : Nat) (a1 : Int32) (a2 : Int32)  (S : so_St) (k_a0 : a0 % 64 ∈ [16]) (hf : fX26_init a0 a1 a2 S = some S') : jx_Sp 3 yX26_init (ws_ yX26_init cX26_init 3 (Option.none : Option Jvm.ClassFile.FieldType)) [.ref a0, .int a1, .int a2] S (.inl none) S' := by
  refine jx_of (plainFor_of_name (by decide)) (so_le rfl) ?_
  show jg_ (S, S', .inl none) kX26_init 0 [(0, .ref a0), (1, .int a1), (2, .int a2)] [] S
  unfold fX26_init at hf
  refine jr_aload_n dX26_init_0 rfl rfl jv_rr ?_
  refine jr_call (st := []) lk_X26_1 (wX23_init a0 S (so_ms k_a0 rfl) rfl) (jk_r1 (so_n63 k_a0 rfl)) rfl rfl (so_le rfl) (so_le rfl) dX26_init_1 ?_
  refine jr_aload_n dX26_init_4 rfl rfl jv_rr ?_
  refine jr_iload_n dX26_init_5 rfl rfl ?_
  refine jr_putI fp_X26_7_16 k_a0 (so_n26 rfl) (fun _ => rfl) rfl rfl dX26_init_6 ?_
  refine so_let_e hf (fun S1 hf => ?_)
  refine jr_aload_n dX26_init_9 rfl rfl jv_rr ?_
  refine jr_iload_n dX26_init_10 rfl rfl ?_
  refine jr_putI fp_X26_13_16 k_a0 (so_n26 rfl) (fun _ => rfl) rfl rfl dX26_init_11 ?_
  refine so_let_e hf (fun S2 hf => ?_)
  obtain rfl := so_e1 hf
  exact jr_vret rfl dX26_init_14

/- X25_init -/
abbrev kX25_init : jx_K := (cX25_init, 2, RX25, 3, (Option.none : Option Jvm.ClassFile.FieldType), "<init>", [])
def fX25_init (a0 : Nat) (a1 : Int32) (S : so_St) : Option so_St :=
  so_let (so_sI S a0 0 a1) fun S1 =>
  some S1
set_option maxHeartbeats 4000000 in
set_option maxRecDepth 100000 in
theorem wX25_init {S' : so_St}  (a0 : Nat) (a1 : Int32)  (S : so_St) (k_a0 : a0 % 64 ∈ [15]) (hf : fX25_init a0 a1 S = some S') : jx_Sp 3 yX25_init (ws_ yX25_init cX25_init 2 (Option.none : Option Jvm.ClassFile.FieldType)) [.ref a0, .int a1] S (.inl none) S' := by
  refine jx_of (plainFor_of_name (by decide)) (so_le rfl) ?_
  show jg_ (S, S', .inl none) kX25_init 0 [(0, .ref a0), (1, .int a1)] [] S
  unfold fX25_init at hf
  refine jr_aload_n dX25_init_0 rfl rfl jv_rr ?_
  refine jr_call (st := []) lk_X25_1 (wX23_init a0 S (so_ms k_a0 rfl) rfl) (jk_r1 (so_n63 k_a0 rfl)) rfl rfl (so_le rfl) (so_le rfl) dX25_init_1 ?_
  refine jr_aload_n dX25_init_4 rfl rfl jv_rr ?_
  refine jr_iload_n dX25_init_5 rfl rfl ?_
  refine jr_putI fp_X25_7_15 k_a0 (so_n26 rfl) (fun _ => rfl) rfl rfl dX25_init_6 ?_
  refine so_let_e hf (fun S1 hf => ?_)
  obtain rfl := so_e1 hf
  exact jr_vret rfl dX25_init_9

/- X24_init -/
abbrev kX24_init : jx_K := (cX24_init, 3, RX24, 3, (Option.none : Option Jvm.ClassFile.FieldType), "<init>", [])
def fX24_init (a0 : Nat) (a1 : Int32) (a2 : Int32) (S : so_St) : Option so_St :=
  so_let (so_sI S a0 0 a1) fun S1 =>
  so_let (so_sI S1 a0 1 a2) fun S2 =>
  some S2
set_option maxHeartbeats 4000000 in
set_option maxRecDepth 100000 in
theorem wX24_init {S' : so_St}  (a0 : Nat) (a1 : Int32) (a2 : Int32)  (S : so_St) (k_a0 : a0 % 64 ∈ [14]) (hf : fX24_init a0 a1 a2 S = some S') : jx_Sp 3 yX24_init (ws_ yX24_init cX24_init 3 (Option.none : Option Jvm.ClassFile.FieldType)) [.ref a0, .int a1, .int a2] S (.inl none) S' := by
  refine jx_of (plainFor_of_name (by decide)) (so_le rfl) ?_
  show jg_ (S, S', .inl none) kX24_init 0 [(0, .ref a0), (1, .int a1), (2, .int a2)] [] S
  unfold fX24_init at hf
  refine jr_aload_n dX24_init_0 rfl rfl jv_rr ?_
  refine jr_call (st := []) lk_X24_1 (wX23_init a0 S (so_ms k_a0 rfl) rfl) (jk_r1 (so_n63 k_a0 rfl)) rfl rfl (so_le rfl) (so_le rfl) dX24_init_1 ?_
  refine jr_aload_n dX24_init_4 rfl rfl jv_rr ?_
  refine jr_iload_n dX24_init_5 rfl rfl ?_
  refine jr_putI fp_X24_7_14 k_a0 (so_n26 rfl) (fun _ => rfl) rfl rfl dX24_init_6 ?_
  refine so_let_e hf (fun S1 hf => ?_)
  refine jr_aload_n dX24_init_9 rfl rfl jv_rr ?_
  refine jr_iload_n dX24_init_10 rfl rfl ?_
  refine jr_putI fp_X24_13_14 k_a0 (so_n26 rfl) (fun _ => rfl) rfl rfl dX24_init_11 ?_
  refine so_let_e hf (fun S2 hf => ?_)
  obtain rfl := so_e1 hf
  exact jr_vret rfl dX24_init_14

/- X27_init -/
abbrev kX27_init : jx_K := (cX27_init, 1, RX27, 3, (Option.none : Option Jvm.ClassFile.FieldType), "<init>", [])
def fX27_init (a0 : Nat) : Unit :=
  ()
set_option maxHeartbeats 4000000 in
set_option maxRecDepth 100000 in
theorem wX27_init  (a0 : Nat)  (S : so_St) (k_a0 : a0 % 64 ∈ [17]) (hf : fX27_init a0 = ()) : jx_Sp 3 yX27_init (ws_ yX27_init cX27_init 1 (Option.none : Option Jvm.ClassFile.FieldType)) [.ref a0] S (.inl none) S := by
  refine jx_of (plainFor_of_name (by decide)) (so_le rfl) ?_
  show jg_ (S, S, .inl none) kX27_init 0 [(0, .ref a0)] [] S
  unfold fX27_init at hf
  refine jr_aload_n dX27_init_0 rfl rfl jv_rr ?_
  refine jr_call (st := []) lk_X27_1 (wX23_init a0 S (so_ms k_a0 rfl) rfl) (jk_r1 (so_n63 k_a0 rfl)) rfl rfl (so_le rfl) (so_le rfl) dX27_init_1 ?_
  exact jr_vret rfl dX27_init_4

/- X21_act -/
abbrev kX21_act : jx_K := (cX21_act, 5, RX21, 7, (Option.some (Jvm.ClassFile.FieldType.object "TunedHouses$Step")), "act", [])
def fX21_act (a0 : Nat) (a1 : Nat) (S : so_St) : Option ((Nat ⊕ Nat) × so_St) :=
  so_gd (so_big a1) fun _ =>
  so_b2 (fJ9_hashCode a1 S) fun r3 S4 =>
  so_j (κ := Int32 → Option ((Nat ⊕ Nat) × so_St)) (ρ := Option ((Nat ⊕ Nat) × so_St)) (fun (v5 : Int32) =>
  if v5 = (0 : Int32) then
  (so_b3 (fX21_piano a0 S4) (fun r8 S9 =>
  so_let (so_new S9 14 0 2) fun S14 =>
  (so_rk (so_R S14 a0 5) [1]).bind fun p15 =>
  so_b3 (fX9_number a0 (0 : Int32) ((so_I S14 p15 6) - (1 : Int32)) S14) (fun r17 S18 =>
  (fX24_init (so_at S9 14) r8 r17 S18).bind fun S25 =>
  some (.inl (so_at S9 14), S25))
  (fun x19 S20 =>
  so_gd (decide (x19 % 64 ∈ [3])) fun _ =>
  some (.inr x19, S20)))
  (fun x10 S11 =>
  so_gd (decide (x10 % 64 ∈ [3])) fun _ =>
  some (.inr x10, S11)))
  else
  if v5 = (1 : Int32) then
  (so_let (so_new S4 15 0 1) fun S27 =>
  so_b3 (fX21_piano a0 S27) (fun r28 S29 =>
  (fX25_init (so_at S4 15) r28 S29).bind fun S36 =>
  some (.inl (so_at S4 15), S36))
  (fun x30 S31 =>
  so_gd (decide (x30 % 64 ∈ [3])) fun _ =>
  some (.inr x30, S31)))
  else
  if v5 = (2 : Int32) then
  (so_b3 (fX21_piano a0 S4) (fun r38 S39 =>
  so_let (so_new S39 16 0 2) fun S44 =>
  so_b3 (fX9_number a0 (0 : Int32) (9 : Int32) S44) (fun r45 S46 =>
  (fX26_init (so_at S39 16) r38 r45 S46).bind fun S53 =>
  some (.inl (so_at S39 16), S53))
  (fun x47 S48 =>
  so_gd (decide (x47 % 64 ∈ [3])) fun _ =>
  some (.inr x47, S48)))
  (fun x40 S41 =>
  so_gd (decide (x40 % 64 ∈ [3])) fun _ =>
  some (.inr x40, S41)))
  else
  (so_let (so_new S4 17 0 0) fun S54 =>
  some (.inl (so_at S4 17), S54)))
  (fun J6 =>
  if r3 = (106916 : Int32) then
  ((fJ9_equals a1 2330 S4).bind fun r57 =>
  if r57 = (0 : Int32) then
  (J6 (-1 : Int32))
  else
  (J6 (2 : Int32)))
  else
  if r3 = (111375 : Int32) then
  ((fJ9_equals a1 2074 S4).bind fun r61 =>
  if r61 = (0 : Int32) then
  (J6 (-1 : Int32))
  else
  (J6 (0 : Int32)))
  else
  if r3 = (3552391 : Int32) then
  ((fJ9_equals a1 2202 S4).bind fun r65 =>
  if r65 = (0 : Int32) then
  (J6 (-1 : Int32))
  else
  (J6 (1 : Int32)))
  else
  (J6 (-1 : Int32)))
set_option maxHeartbeats 4000000 in
set_option maxRecDepth 100000 in
theorem wX21_act {res : Nat ⊕ Nat} {S' : so_St}  (a0 : Nat) (a1 : Nat)  (S : so_St) (k_a0 : a0 % 64 ∈ [13]) (k_a1 : a1 % 64 ∈ [26]) (hf : fX21_act a0 a1 S = some (res, S')) : jx_Sp 7 yX21_act (ws_ yX21_act cX21_act 5 (Option.some (Jvm.ClassFile.FieldType.object "TunedHouses$Step"))) [.ref a0, .ref a1] S (so_or res) S' := by
  refine jx_of (plainFor_of_name (by decide)) (so_le rfl) ?_
  show jg_ (S, S', so_or res) kX21_act 0 [(0, .ref a0), (1, .ref a1)] [] S
  unfold fX21_act at hf
  refine jr_aload_n dX21_act_0 rfl rfl jv_rr ?_
  refine jr_astore_n (lv' := [(0, .ref a0), (1, .ref a1), (2, .ref a1)]) dX21_act_1 rfl (so_le rfl) jv_rr rfl ?_
  refine jr_iconst dX21_act_2 ic_m1 ?_
  refine jr_istore_n (lv' := [(0, .ref a0), (1, .ref a1), (2, .ref a1), (3, .int (-1 : Int32))]) dX21_act_3 rfl (so_le rfl) rfl ?_
  refine jr_aload_n dX21_act_4 rfl rfl jv_rr ?_
  obtain ⟨g1, hf⟩ := so_gdE hf
  obtain ⟨r3, S4, h2, hf⟩ := so_b2E hf
  refine jr_call (st := []) (lk_X21_55_26 26 (so_i1 rfl)) (wJ9_hashCode a1 S k_a1 (so_bigE g1) h2) (jk_r2 26 (so_m1 k_a1) (so_le rfl) rfl rfl (fun _ => (so_bigE g1))) rfl rfl (so_le rfl) (so_le rfl) dX21_act_5 ?_
  refine so_jE hf (fun J => ∀ (v5 : Int32), J v5 = some (res, S') → jg_ (S, S', so_or res) kX21_act 83 [(0, .ref a0), (3, .int v5)] [] S4) (fun v5 hf => ?_) (fun J6 hJ6 hf => ?_)
  · refine jr_iload_n dX21_act_83 rfl rfl ?_
    by_cases c7 : v5 = (0 : Int32)
    · have hf := so_t c7 hf
      refine jr_tsIn (tgt := 112) (0 : Int32) c7 dX21_act_84 (by decide) (by decide) rfl rfl ?_
      refine jr_aload_n dX21_act_112 rfl rfl jv_rr ?_
      rcases so_b3E hf with ⟨r8, S9, h12, hf⟩ | ⟨x10, S11, h12, hf⟩
      · refine jr_callM (st := []) lk_X21_89_13 (wX21_piano a0 S4 k_a0 h12) k_a0 rfl rfl rfl (so_le rfl) (so_le rfl) dX21_act_113 ?_
        refine jr_istore (lv' := [(0, .ref a0), (3, .int v5), (4, .int r8)]) dX21_act_116 (so_le rfl) rfl ?_
        refine jr_new nw_X21_92 dX21_act_118 ?_
        refine so_let_e hf (fun S14 hf => ?_)
        refine jr_dup dX21_act_121 rfl ?_
        refine jr_iload dX21_act_122 rfl ?_
        refine jr_aload_n dX21_act_124 rfl rfl jv_rr ?_
        refine jr_iconst dX21_act_125 ic_0 ?_
        refine jr_aload_n dX21_act_126 rfl rfl jv_rr ?_
        refine jr_getR fl_X21_9_13 k_a0 (so_n26 rfl) dX21_act_127 ?_
        obtain ⟨p15, h16, hf⟩ := so_b hf
        obtain ⟨h16, k_p15⟩ := so_rk_s h16
        refine jr_rf h16 ?_
        refine jr_getI fl_X21_94_1 k_p15 (so_n26 rfl) dX21_act_130 ?_
        refine jr_iconst dX21_act_133 ic_1 ?_
        refine jr_isub dX21_act_134 ?_
        rcases so_b3E hf with ⟨r17, S18, h21, hf⟩ | ⟨x19, S20, h21, hf⟩
        · refine jr_callM (st := [.int r8, .ref (so_at S9 14), .ref (so_at S9 14)]) lk_X21_47_13 (wX9_number a0 (0 : Int32) ((so_I S14 p15 6) - (1 : Int32)) S14 (so_ms k_a0 rfl) h21) k_a0 rfl rfl rfl (so_le rfl) (so_le rfl) dX21_act_135 ?_
          obtain ⟨S25, h23, hf⟩ := so_b hf
          refine jr_call (st := [.ref (so_at S9 14)]) lk_X21_97 (wX24_init (so_at S9 14) r8 r17 S18 (so_atk rfl) h23) (jk_r1 (so_n63 (so_atk rfl) rfl)) rfl rfl (so_le rfl) (so_le rfl) dX21_act_138 ?_
          obtain ⟨rfl, rfl⟩ := so_e2 hf
          exact jr_aret rfl (Or.inl ⟨_, rfl⟩) jv_rr dX21_act_141
        · refine jr_callMX (st := [.int r8, .ref (so_at S9 14), .ref (so_at S9 14)]) lk_X21_47_13 (wX9_number a0 (0 : Int32) ((so_I S14 p15 6) - (1 : Int32)) S14 (so_ms k_a0 rfl) h21) k_a0 rfl rfl rfl (so_le rfl) (so_le rfl) dX21_act_135 ?_
          obtain ⟨g22, hf⟩ := so_gdE hf
          obtain ⟨rfl, rfl⟩ := so_e2 hf
          exact jr_out (so_l29 (of_decide_eq_true g22) rfl).1 (so_l29 (of_decide_eq_true g22) rfl).2 rfl
      · refine jr_callMX (st := []) lk_X21_89_13 (wX21_piano a0 S4 k_a0 h12) k_a0 rfl rfl rfl (so_le rfl) (so_le rfl) dX21_act_113 ?_
        obtain ⟨g13, hf⟩ := so_gdE hf
        obtain ⟨rfl, rfl⟩ := so_e2 hf
        exact jr_out (so_l29 (of_decide_eq_true g13) rfl).1 (so_l29 (of_decide_eq_true g13) rfl).2 rfl
    · have hf := so_f c7 hf
      by_cases c26 : v5 = (1 : Int32)
      · have hf := so_t c26 hf
        refine jr_tsIn (tgt := 142) (1 : Int32) c26 dX21_act_84 (by decide) (by decide) rfl rfl ?_
        refine jr_new nw_X21_100 dX21_act_142 ?_
        refine so_let_e hf (fun S27 hf => ?_)
        refine jr_dup dX21_act_145 rfl ?_
        refine jr_aload_n dX21_act_146 rfl rfl jv_rr ?_
        rcases so_b3E hf with ⟨r28, S29, h32, hf⟩ | ⟨x30, S31, h32, hf⟩
        · refine jr_callM (st := [.ref (so_at S4 15), .ref (so_at S4 15)]) lk_X21_89_13 (wX21_piano a0 S27 k_a0 h32) k_a0 rfl rfl rfl (so_le rfl) (so_le rfl) dX21_act_147 ?_
          obtain ⟨S36, h34, hf⟩ := so_b hf
          refine jr_call (st := [.ref (so_at S4 15)]) lk_X21_102 (wX25_init (so_at S4 15) r28 S29 (so_atk rfl) h34) (jk_r1 (so_n63 (so_atk rfl) rfl)) rfl rfl (so_le rfl) (so_le rfl) dX21_act_150 ?_
          obtain ⟨rfl, rfl⟩ := so_e2 hf
          exact jr_aret rfl (Or.inl ⟨_, rfl⟩) jv_rr dX21_act_153
        · refine jr_callMX (st := [.ref (so_at S4 15), .ref (so_at S4 15)]) lk_X21_89_13 (wX21_piano a0 S27 k_a0 h32) k_a0 rfl rfl rfl (so_le rfl) (so_le rfl) dX21_act_147 ?_
          obtain ⟨g33, hf⟩ := so_gdE hf
          obtain ⟨rfl, rfl⟩ := so_e2 hf
          exact jr_out (so_l29 (of_decide_eq_true g33) rfl).1 (so_l29 (of_decide_eq_true g33) rfl).2 rfl
      · have hf := so_f c26 hf
        by_cases c37 : v5 = (2 : Int32)
        · have hf := so_t c37 hf
          refine jr_tsIn (tgt := 154) (2 : Int32) c37 dX21_act_84 (by decide) (by decide) rfl rfl ?_
          refine jr_aload_n dX21_act_154 rfl rfl jv_rr ?_
          rcases so_b3E hf with ⟨r38, S39, h42, hf⟩ | ⟨x40, S41, h42, hf⟩
          · refine jr_callM (st := []) lk_X21_89_13 (wX21_piano a0 S4 k_a0 h42) k_a0 rfl rfl rfl (so_le rfl) (so_le rfl) dX21_act_155 ?_
            refine jr_istore (lv' := [(0, .ref a0), (3, .int v5), (4, .int r38)]) dX21_act_158 (so_le rfl) rfl ?_
            refine jr_new nw_X21_103 dX21_act_160 ?_
            refine so_let_e hf (fun S44 hf => ?_)
            refine jr_dup dX21_act_163 rfl ?_
            refine jr_iload dX21_act_164 rfl ?_
            refine jr_aload_n dX21_act_166 rfl rfl jv_rr ?_
            refine jr_iconst dX21_act_167 ic_0 ?_
            refine jr_bipush dX21_act_168 bp_9 ?_
            rcases so_b3E hf with ⟨r45, S46, h49, hf⟩ | ⟨x47, S48, h49, hf⟩
            · refine jr_callM (st := [.int r38, .ref (so_at S39 16), .ref (so_at S39 16)]) lk_X21_47_13 (wX9_number a0 (0 : Int32) (9 : Int32) S44 (so_ms k_a0 rfl) h49) k_a0 rfl rfl rfl (so_le rfl) (so_le rfl) dX21_act_170 ?_
              obtain ⟨S53, h51, hf⟩ := so_b hf
              refine jr_call (st := [.ref (so_at S39 16)]) lk_X21_105 (wX26_init (so_at S39 16) r38 r45 S46 (so_atk rfl) h51) (jk_r1 (so_n63 (so_atk rfl) rfl)) rfl rfl (so_le rfl) (so_le rfl) dX21_act_173 ?_
              obtain ⟨rfl, rfl⟩ := so_e2 hf
              exact jr_aret rfl (Or.inl ⟨_, rfl⟩) jv_rr dX21_act_176
            · refine jr_callMX (st := [.int r38, .ref (so_at S39 16), .ref (so_at S39 16)]) lk_X21_47_13 (wX9_number a0 (0 : Int32) (9 : Int32) S44 (so_ms k_a0 rfl) h49) k_a0 rfl rfl rfl (so_le rfl) (so_le rfl) dX21_act_170 ?_
              obtain ⟨g50, hf⟩ := so_gdE hf
              obtain ⟨rfl, rfl⟩ := so_e2 hf
              exact jr_out (so_l29 (of_decide_eq_true g50) rfl).1 (so_l29 (of_decide_eq_true g50) rfl).2 rfl
          · refine jr_callMX (st := []) lk_X21_89_13 (wX21_piano a0 S4 k_a0 h42) k_a0 rfl rfl rfl (so_le rfl) (so_le rfl) dX21_act_155 ?_
            obtain ⟨g43, hf⟩ := so_gdE hf
            obtain ⟨rfl, rfl⟩ := so_e2 hf
            exact jr_out (so_l29 (of_decide_eq_true g43) rfl).1 (so_l29 (of_decide_eq_true g43) rfl).2 rfl
        · have hf := so_f c37 hf
          refine jr_tsOut (tgt := 177) [(0 : Int32), (1 : Int32), (2 : Int32)] (by decide) (List.forall_mem_cons.mpr ⟨c7, List.forall_mem_cons.mpr ⟨c26, List.forall_mem_cons.mpr ⟨c37, fun _ h => by cases h⟩⟩⟩) dX21_act_84 rfl ?_
          refine jr_new nw_X21_106 dX21_act_177 ?_
          refine so_let_e hf (fun S54 hf => ?_)
          refine jr_dup dX21_act_180 rfl ?_
          refine jr_call (st := [.ref (so_at S4 17)]) lk_X21_108 (wX27_init (so_at S4 17) S54 (so_atk rfl) rfl) (jk_r1 (so_n63 (so_atk rfl) rfl)) rfl rfl (so_le rfl) (so_le rfl) dX21_act_181 ?_
          obtain ⟨rfl, rfl⟩ := so_e2 hf
          exact jr_aret rfl (Or.inl ⟨_, rfl⟩) jv_rr dX21_act_184
  · by_cases c55 : r3 = (106916 : Int32)
    · have hf := so_t c55 hf
      refine jr_lsIn (off := 64) (tgt := 72) (106916 : Int32) c55 dX21_act_8 rfl (by decide) rfl ?_
      refine jr_aload_n dX21_act_72 rfl rfl jv_rr ?_
      refine jr_ldcS (i := 17) (tx := "lay") (show (RX21, 67, "lay", 17) ∈ jw_lits from by decide +kernel) dX21_act_73 ?_
      obtain ⟨r57, h56, hf⟩ := so_b hf
      refine jr_call (st := []) (lk_X21_62_26 26 (so_i1 rfl)) (wJ9_equals a1 2330 S4 k_a1 (so_i1 rfl) (so_bigE g1) h56) (jk_r2 26 (so_m1 k_a1) (so_le rfl) rfl rfl (fun _ => (so_bigE g1))) rfl rfl (so_le rfl) (so_le rfl) dX21_act_75 ?_
      refine jr_if_eq (tgt := 83) dX21_act_78 rfl (fun c58 => ?_) (fun c58 => ?_)
      · have hf := so_t c58 hf
        refine jr_sub [0, 3] rfl ?_
        exact hJ6 (-1 : Int32) hf
      · have hf := so_f c58 hf
        refine jr_iconst dX21_act_81 ic_2 ?_
        refine jr_istore_n (lv' := [(0, .ref a0), (1, .ref a1), (2, .ref a1), (3, .int (2 : Int32))]) dX21_act_82 rfl (so_le rfl) rfl ?_
        refine jr_sub [0, 3] rfl ?_
        exact hJ6 (2 : Int32) hf
    · have hf := so_f c55 hf
      by_cases c59 : r3 = (111375 : Int32)
      · have hf := so_t c59 hf
        refine jr_lsIn (off := 36) (tgt := 44) (111375 : Int32) c59 dX21_act_8 rfl (by decide) rfl ?_
        refine jr_aload_n dX21_act_44 rfl rfl jv_rr ?_
        refine jr_ldcS (i := 15) (tx := "put") (show (RX21, 60, "put", 15) ∈ jw_lits from by decide +kernel) dX21_act_45 ?_
        obtain ⟨r61, h60, hf⟩ := so_b hf
        refine jr_call (st := []) (lk_X21_62_26 26 (so_i1 rfl)) (wJ9_equals a1 2074 S4 k_a1 (so_i1 rfl) (so_bigE g1) h60) (jk_r2 26 (so_m1 k_a1) (so_le rfl) rfl rfl (fun _ => (so_bigE g1))) rfl rfl (so_le rfl) (so_le rfl) dX21_act_47 ?_
        refine jr_if_eq (tgt := 83) dX21_act_50 rfl (fun c62 => ?_) (fun c62 => ?_)
        · have hf := so_t c62 hf
          refine jr_sub [0, 3] rfl ?_
          exact hJ6 (-1 : Int32) hf
        · have hf := so_f c62 hf
          refine jr_iconst dX21_act_53 ic_0 ?_
          refine jr_istore_n (lv' := [(0, .ref a0), (1, .ref a1), (2, .ref a1), (3, .int (0 : Int32))]) dX21_act_54 rfl (so_le rfl) rfl ?_
          refine jr_goto (tgt := 83) dX21_act_55 rfl ?_
          refine jr_sub [0, 3] rfl ?_
          exact hJ6 (0 : Int32) hf
      · have hf := so_f c59 hf
        by_cases c63 : r3 = (3552391 : Int32)
        · have hf := so_t c63 hf
          refine jr_lsIn (off := 50) (tgt := 58) (3552391 : Int32) c63 dX21_act_8 rfl (by decide) rfl ?_
          refine jr_aload_n dX21_act_58 rfl rfl jv_rr ?_
          refine jr_ldcS (i := 16) (tx := "take") (show (RX21, 65, "take", 16) ∈ jw_lits from by decide +kernel) dX21_act_59 ?_
          obtain ⟨r65, h64, hf⟩ := so_b hf
          refine jr_call (st := []) (lk_X21_62_26 26 (so_i1 rfl)) (wJ9_equals a1 2202 S4 k_a1 (so_i1 rfl) (so_bigE g1) h64) (jk_r2 26 (so_m1 k_a1) (so_le rfl) rfl rfl (fun _ => (so_bigE g1))) rfl rfl (so_le rfl) (so_le rfl) dX21_act_61 ?_
          refine jr_if_eq (tgt := 83) dX21_act_64 rfl (fun c66 => ?_) (fun c66 => ?_)
          · have hf := so_t c66 hf
            refine jr_sub [0, 3] rfl ?_
            exact hJ6 (-1 : Int32) hf
          · have hf := so_f c66 hf
            refine jr_iconst dX21_act_67 ic_1 ?_
            refine jr_istore_n (lv' := [(0, .ref a0), (1, .ref a1), (2, .ref a1), (3, .int (1 : Int32))]) dX21_act_68 rfl (so_le rfl) rfl ?_
            refine jr_goto (tgt := 83) dX21_act_69 rfl ?_
            refine jr_sub [0, 3] rfl ?_
            exact hJ6 (1 : Int32) hf
        · have hf := so_f c63 hf
          refine jr_lsOut (tgt := 83) [(106916 : Int32), (111375 : Int32), (3552391 : Int32)] (by decide) (List.forall_mem_cons.mpr ⟨c55, List.forall_mem_cons.mpr ⟨c59, List.forall_mem_cons.mpr ⟨c63, fun _ h => by cases h⟩⟩⟩) dX21_act_8 rfl rfl ?_
          refine jr_sub [0, 3] rfl ?_
          exact hJ6 (-1 : Int32) hf

/- X21_step -/
abbrev kX21_step (d0 : Nat) : jx_K := (cX21_step, 5, RX21, d0 + 8, (Option.some (Jvm.ClassFile.FieldType.object "TunedHouses$Step")), "step", [])
def fX21_step (rec : Nat → so_St → Option ((Nat ⊕ Nat) × so_St)) (a0 : Nat) (S : so_St) : Option ((Nat ⊕ Nat) × so_St) :=
  so_b2 (fX9_word a0 S) fun r2 S3 =>
  so_gd (decide (r2 % 64 ∈ [26])) fun _ =>
  so_gd (so_big r2) fun _ =>
  so_b2 (fJ9_hashCode r2 S3) fun r7 S8 =>
  so_j (κ := Int32 → Option ((Nat ⊕ Nat) × so_St)) (ρ := Option ((Nat ⊕ Nat) × so_St)) (fun (v9 : Int32) =>
  so_j (κ := Nat → so_St → Option ((Nat ⊕ Nat) × so_St)) (ρ := Option ((Nat ⊕ Nat) × so_St)) (fun (v11 : Nat) (S12 : so_St) =>
  so_b3 (fX9_need a0 (59 : Int32) S12) (fun r14 S15 =>
  some (.inl v11, S15))
  (fun x16 S17 =>
  so_gd (decide (x16 % 64 ∈ [3])) fun _ =>
  some (.inr x16, S17)))
  (fun J13 =>
  so_j (κ := Unit → Option ((Nat ⊕ Nat) × so_St)) (ρ := Option ((Nat ⊕ Nat) × so_St)) (fun (_u : Unit) =>
  (fJ9_length r2 S8).bind fun r22 =>
  so_let (so_sI S8 a0 2 ((so_I S8 a0 2) + r22)) fun S23 =>
  so_b3 (fX21_act a0 r2 S23) (fun r24 S25 =>
  so_gd (decide (r24 % 64 ∈ [14, 15, 16, 17, 18])) fun _ =>
  J13 r24 S25)
  (fun x26 S27 =>
  so_gd (decide (x26 % 64 ∈ [3])) fun _ =>
  some (.inr x26, S27)))
  (fun J20 =>
  if v9 = (0 : Int32) then
  (J20 ())
  else
  if v9 = (1 : Int32) then
  (J20 ())
  else
  if v9 = (2 : Int32) then
  (J20 ())
  else
  if v9 = (3 : Int32) then
  (J20 ())
  else
  if v9 = (4 : Int32) then
  (so_b3 (fX21_again rec a0 S8) (fun r35 S36 =>
  so_gd (decide (r35 % 64 ∈ [14, 15, 16, 17, 18])) fun _ =>
  J13 r35 S36)
  (fun x37 S38 =>
  so_gd (decide (x37 % 64 ∈ [3])) fun _ =>
  some (.inr x37, S38)))
  else
  (so_b2 (fX9_wrong a0 S8) fun r42 S43 =>
  so_gd (decide (r42 % 64 ∈ [3])) fun _ =>
  some (.inr r42, S43)))))
  (fun J10 =>
  if r7 = (99228 : Int32) then
  ((fJ9_equals r2 2458 S8).bind fun r48 =>
  if r48 = (0 : Int32) then
  (J10 (-1 : Int32))
  else
  (J10 (3 : Int32)))
  else
  if r7 = (106916 : Int32) then
  ((fJ9_equals r2 2330 S8).bind fun r52 =>
  if r52 = (0 : Int32) then
  (J10 (-1 : Int32))
  else
  (J10 (2 : Int32)))
  else
  if r7 = (111375 : Int32) then
  ((fJ9_equals r2 2074 S8).bind fun r56 =>
  if r56 = (0 : Int32) then
  (J10 (-1 : Int32))
  else
  (J10 (0 : Int32)))
  else
  if r7 = (3552391 : Int32) then
  ((fJ9_equals r2 2202 S8).bind fun r60 =>
  if r60 = (0 : Int32) then
  (J10 (-1 : Int32))
  else
  (J10 (1 : Int32)))
  else
  if r7 = (92746592 : Int32) then
  ((fJ9_equals r2 2586 S8).bind fun r64 =>
  if r64 = (0 : Int32) then
  (J10 (-1 : Int32))
  else
  (J10 (4 : Int32)))
  else
  (J10 (-1 : Int32)))
set_option maxHeartbeats 4000000 in
set_option maxRecDepth 100000 in
theorem wX21_step {d0 : Nat} {res : Nat ⊕ Nat} {S' : so_St} {rec : Nat → so_St → Option ((Nat ⊕ Nat) × so_St)} (hrec : ∀ (a0 : Nat) (S : so_St), a0 % 64 ∈ [13] → ∀ {res : Nat ⊕ Nat} {S' : so_St}, rec a0 S = some (res, S') → jx_Sp d0 yX21_step (ws_ yX21_step cX21_step 5 (Option.some (Jvm.ClassFile.FieldType.object "TunedHouses$Step"))) [.ref a0] S (so_or res) S') (a0 : Nat)  (S : so_St) (k_a0 : a0 % 64 ∈ [13]) (hf : fX21_step rec a0 S = some (res, S')) : jx_Sp (d0 + 8) yX21_step (ws_ yX21_step cX21_step 5 (Option.some (Jvm.ClassFile.FieldType.object "TunedHouses$Step"))) [.ref a0] S (so_or res) S' := by
  refine jx_of (plainFor_of_name (by decide)) (so_le rfl) ?_
  show jg_ (S, S', so_or res) (kX21_step d0) 0 [(0, .ref a0)] [] S
  unfold fX21_step at hf
  refine jr_aload_n dX21_step_0 rfl rfl jv_rr ?_
  obtain ⟨r2, S3, h1, hf⟩ := so_b2E hf
  obtain ⟨g4, hf⟩ := so_gdE hf
  refine jr_callM (st := []) lk_X21_51_13 (wX9_word a0 S (so_ms k_a0 rfl) h1) k_a0 rfl rfl rfl (so_le rfl) (show 6 + 1 ≤ d0 + 8 by omega) dX21_step_1 ?_
  refine jr_astore_n (lv' := [(0, .ref a0), (1, .ref r2)]) dX21_step_4 rfl (so_le rfl) jv_rr rfl ?_
  refine jr_aload_n dX21_step_5 rfl rfl jv_rr ?_
  refine jr_astore_n (lv' := [(0, .ref a0), (1, .ref r2), (3, .ref r2)]) dX21_step_6 rfl (so_le rfl) jv_rr rfl ?_
  refine jr_iconst dX21_step_7 ic_m1 ?_
  refine jr_istore (lv' := [(0, .ref a0), (1, .ref r2), (3, .ref r2), (4, .int (-1 : Int32))]) dX21_step_8 (so_le rfl) rfl ?_
  refine jr_aload_n dX21_step_10 rfl rfl jv_rr ?_
  obtain ⟨g5, hf⟩ := so_gdE hf
  obtain ⟨r7, S8, h6, hf⟩ := so_b2E hf
  refine jr_call (st := []) (lk_X21_55_26 26 (so_i1 rfl)) (wJ9_hashCode r2 S3 (of_decide_eq_true g4) (so_bigE g5) h6) (jk_r2 26 (so_m1 (of_decide_eq_true g4)) (so_le rfl) rfl rfl (fun _ => (so_bigE g5))) rfl rfl (so_le rfl) (show 3 + 1 ≤ d0 + 8 by omega) dX21_step_11 ?_
  refine so_jE hf (fun J => ∀ (v9 : Int32), J v9 = some (res, S') → jg_ (S, S', so_or res) (kX21_step d0) 136 [(0, .ref a0), (1, .ref r2), (4, .int v9)] [] S8) (fun v9 hf => ?_) (fun J10 hJ10 hf => ?_)
  · refine jr_iload dX21_step_136 rfl ?_
    refine so_jE hf (fun J => ∀ (v11 : Nat) (S12 : so_St), v11 % 64 ∈ [14, 15, 16, 17, 18] → J v11 S12 = some (res, S') → jg_ (S, S', so_or res) (kX21_step d0) 207 [(0, .ref a0), (2, .ref v11)] [] S12) (fun v11 S12 k_v11 hf => ?_) (fun J13 hJ13 hf => ?_)
    · refine jr_aload_n dX21_step_207 rfl rfl jv_rr ?_
      refine jr_bipush dX21_step_208 bp_59 ?_
      rcases so_b3E hf with ⟨r14, S15, h18, hf⟩ | ⟨x16, S17, h18, hf⟩
      · refine jr_callM (st := []) lk_X21_86_13 (wX9_need a0 (59 : Int32) S12 (so_ms k_a0 rfl) h18) k_a0 rfl rfl rfl (so_le rfl) (show 5 + 1 ≤ d0 + 8 by omega) dX21_step_210 ?_
        refine jr_aload_n dX21_step_213 rfl rfl jv_rr ?_
        obtain ⟨rfl, rfl⟩ := so_e2 hf
        exact jr_aret rfl (Or.inl ⟨_, rfl⟩) jv_rr dX21_step_214
      · refine jr_callMX (st := []) lk_X21_86_13 (wX9_need a0 (59 : Int32) S12 (so_ms k_a0 rfl) h18) k_a0 rfl rfl rfl (so_le rfl) (show 5 + 1 ≤ d0 + 8 by omega) dX21_step_210 ?_
        obtain ⟨g19, hf⟩ := so_gdE hf
        obtain ⟨rfl, rfl⟩ := so_e2 hf
        exact jr_out (so_l29 (of_decide_eq_true g19) rfl).1 (so_l29 (of_decide_eq_true g19) rfl).2 rfl
    · refine so_jE hf (fun J => ∀ (u0 : Unit), J u0 = some (res, S') → jg_ (S, S', so_or res) (kX21_step d0) 172 [(0, .ref a0), (1, .ref r2)] [] S8) (fun _u hf => ?_) (fun J20 hJ20 hf => ?_)
      · refine jr_aload_n dX21_step_172 rfl rfl jv_rr ?_
        refine jr_dup dX21_step_173 rfl ?_
        refine jr_getI fl_X21_24_13 k_a0 (so_n26 rfl) dX21_step_174 ?_
        refine jr_aload_n dX21_step_177 rfl rfl jv_rr ?_
        obtain ⟨r22, h21, hf⟩ := so_b hf
        refine jr_call (st := [.int (so_I S8 a0 2), .ref a0]) (lk_X21_73_26 26 (so_i1 rfl)) (wJ9_length r2 S8 (of_decide_eq_true g4) h21) (jk_r2 26 (so_m1 (of_decide_eq_true g4)) (so_le rfl) rfl rfl (fun _ => (so_bigE g5))) rfl rfl (so_le rfl) (show 1 + 1 ≤ d0 + 8 by omega) dX21_step_178 ?_
        refine jr_iadd dX21_step_181 ?_
        refine jr_putI fp_X21_24_13 k_a0 (so_n26 rfl) (fun h => by cases h) rfl rfl dX21_step_182 ?_
        refine so_let_e hf (fun S23 hf => ?_)
        refine jr_aload_n dX21_step_185 rfl rfl jv_rr ?_
        refine jr_aload_n dX21_step_186 rfl rfl jv_rr ?_
        rcases so_b3E hf with ⟨r24, S25, h28, hf⟩ | ⟨x26, S27, h28, hf⟩
        · obtain ⟨g_r24, hf⟩ := so_gdE hf
          refine jr_callM (st := []) lk_X21_76_13 (wX21_act a0 r2 S23 k_a0 (of_decide_eq_true g4) h28) k_a0 rfl rfl rfl (so_le rfl) (show 7 + 1 ≤ d0 + 8 by omega) dX21_step_187 ?_
          refine jr_astore_n (lv' := [(0, .ref a0), (1, .ref r2), (2, .ref r24)]) dX21_step_190 rfl (so_le rfl) jv_rr rfl ?_
          refine jr_goto (tgt := 207) dX21_step_191 rfl ?_
          refine jr_sub [0, 2] rfl ?_
          exact hJ13 r24 S25 (of_decide_eq_true g_r24) hf
        · refine jr_callMX (st := []) lk_X21_76_13 (wX21_act a0 r2 S23 k_a0 (of_decide_eq_true g4) h28) k_a0 rfl rfl rfl (so_le rfl) (show 7 + 1 ≤ d0 + 8 by omega) dX21_step_187 ?_
          obtain ⟨g29, hf⟩ := so_gdE hf
          obtain ⟨rfl, rfl⟩ := so_e2 hf
          exact jr_out (so_l29 (of_decide_eq_true g29) rfl).1 (so_l29 (of_decide_eq_true g29) rfl).2 rfl
      · by_cases c30 : v9 = (0 : Int32)
        · have hf := so_t c30 hf
          refine jr_tsIn (tgt := 172) (0 : Int32) c30 dX21_step_138 (by decide) (by decide) rfl rfl ?_
          refine jr_sub [0, 1] rfl ?_
          exact hJ20 () hf
        · have hf := so_f c30 hf
          by_cases c31 : v9 = (1 : Int32)
          · have hf := so_t c31 hf
            refine jr_tsIn (tgt := 172) (1 : Int32) c31 dX21_step_138 (by decide) (by decide) rfl rfl ?_
            refine jr_sub [0, 1] rfl ?_
            exact hJ20 () hf
          · have hf := so_f c31 hf
            by_cases c32 : v9 = (2 : Int32)
            · have hf := so_t c32 hf
              refine jr_tsIn (tgt := 172) (2 : Int32) c32 dX21_step_138 (by decide) (by decide) rfl rfl ?_
              refine jr_sub [0, 1] rfl ?_
              exact hJ20 () hf
            · have hf := so_f c32 hf
              by_cases c33 : v9 = (3 : Int32)
              · have hf := so_t c33 hf
                refine jr_tsIn (tgt := 172) (3 : Int32) c33 dX21_step_138 (by decide) (by decide) rfl rfl ?_
                refine jr_sub [0, 1] rfl ?_
                exact hJ20 () hf
              · have hf := so_f c33 hf
                by_cases c34 : v9 = (4 : Int32)
                · have hf := so_t c34 hf
                  refine jr_tsIn (tgt := 194) (4 : Int32) c34 dX21_step_138 (by decide) (by decide) rfl rfl ?_
                  refine jr_aload_n dX21_step_194 rfl rfl jv_rr ?_
                  rcases so_b3E hf with ⟨r35, S36, h39, hf⟩ | ⟨x37, S38, h39, hf⟩
                  · obtain ⟨g_r35, hf⟩ := so_gdE hf
                    refine jr_callM (st := []) lk_X21_80_13 (wX21_again hrec a0 S8 k_a0 h39) k_a0 rfl rfl rfl (so_le rfl) (show d0 + 7 + 1 ≤ d0 + 8 by omega) dX21_step_195 ?_
                    refine jr_astore_n (lv' := [(0, .ref a0), (1, .ref r2), (2, .ref r35), (4, .int v9)]) dX21_step_198 rfl (so_le rfl) jv_rr rfl ?_
                    refine jr_goto (tgt := 207) dX21_step_199 rfl ?_
                    refine jr_sub [0, 2] rfl ?_
                    exact hJ13 r35 S36 (of_decide_eq_true g_r35) hf
                  · refine jr_callMX (st := []) lk_X21_80_13 (wX21_again hrec a0 S8 k_a0 h39) k_a0 rfl rfl rfl (so_le rfl) (show d0 + 7 + 1 ≤ d0 + 8 by omega) dX21_step_195 ?_
                    obtain ⟨g40, hf⟩ := so_gdE hf
                    obtain ⟨rfl, rfl⟩ := so_e2 hf
                    exact jr_out (so_l29 (of_decide_eq_true g40) rfl).1 (so_l29 (of_decide_eq_true g40) rfl).2 rfl
                · have hf := so_f c34 hf
                  refine jr_tsOut (tgt := 202) [(0 : Int32), (1 : Int32), (2 : Int32), (3 : Int32), (4 : Int32)] (by decide) (List.forall_mem_cons.mpr ⟨c30, List.forall_mem_cons.mpr ⟨c31, List.forall_mem_cons.mpr ⟨c32, List.forall_mem_cons.mpr ⟨c33, List.forall_mem_cons.mpr ⟨c34, fun _ h => by cases h⟩⟩⟩⟩⟩) dX21_step_138 rfl ?_
                  refine jr_aload_n dX21_step_202 rfl rfl jv_rr ?_
                  obtain ⟨r42, S43, h41, hf⟩ := so_b2E hf
                  obtain ⟨g44, hf⟩ := so_gdE hf
                  refine jr_callM (st := []) lk_X21_82_13 (wX9_wrong a0 S8 (so_ms k_a0 rfl) h41) k_a0 rfl rfl rfl (so_le rfl) (show 4 + 1 ≤ d0 + 8 by omega) dX21_step_203 ?_
                  obtain ⟨rfl, rfl⟩ := so_e2 hf
                  exact jr_athrow (so_n63 (of_decide_eq_true g44) rfl) dX21_step_206 (jr_out (so_l29 (of_decide_eq_true g44) rfl).1 (so_l29 (of_decide_eq_true g44) rfl).2 rfl)
  · by_cases c46 : r7 = (99228 : Int32)
    · have hf := so_t c46 hf
      refine jr_lsIn (off := 95) (tgt := 109) (99228 : Int32) c46 dX21_step_14 rfl (by decide) rfl ?_
      refine jr_aload_n dX21_step_109 rfl rfl jv_rr ?_
      refine jr_ldcS (i := 18) (tx := "day") (show (RX21, 69, "day", 18) ∈ jw_lits from by decide +kernel) dX21_step_110 ?_
      obtain ⟨r48, h47, hf⟩ := so_b hf
      refine jr_call (st := []) (lk_X21_62_26 26 (so_i1 rfl)) (wJ9_equals r2 2458 S8 (of_decide_eq_true g4) (so_i1 rfl) (so_bigE g5) h47) (jk_r2 26 (so_m1 (of_decide_eq_true g4)) (so_le rfl) rfl rfl (fun _ => (so_bigE g5))) rfl rfl (so_le rfl) (show 1 + 1 ≤ d0 + 8 by omega) dX21_step_112 ?_
      refine jr_if_eq (tgt := 136) dX21_step_115 rfl (fun c49 => ?_) (fun c49 => ?_)
      · have hf := so_t c49 hf
        refine jr_sub [0, 1, 3] rfl ?_
        exact hJ10 (-1 : Int32) hf
      · have hf := so_f c49 hf
        refine jr_iconst dX21_step_118 ic_3 ?_
        refine jr_istore (lv' := [(0, .ref a0), (1, .ref r2), (3, .ref r2), (4, .int (3 : Int32))]) dX21_step_119 (so_le rfl) rfl ?_
        refine jr_goto (tgt := 136) dX21_step_121 rfl ?_
        refine jr_sub [0, 1, 3] rfl ?_
        exact hJ10 (3 : Int32) hf
    · have hf := so_f c46 hf
      by_cases c50 : r7 = (106916 : Int32)
      · have hf := so_t c50 hf
        refine jr_lsIn (off := 80) (tgt := 94) (106916 : Int32) c50 dX21_step_14 rfl (by decide) rfl ?_
        refine jr_aload_n dX21_step_94 rfl rfl jv_rr ?_
        refine jr_ldcS (i := 17) (tx := "lay") (show (RX21, 67, "lay", 17) ∈ jw_lits from by decide +kernel) dX21_step_95 ?_
        obtain ⟨r52, h51, hf⟩ := so_b hf
        refine jr_call (st := []) (lk_X21_62_26 26 (so_i1 rfl)) (wJ9_equals r2 2330 S8 (of_decide_eq_true g4) (so_i1 rfl) (so_bigE g5) h51) (jk_r2 26 (so_m1 (of_decide_eq_true g4)) (so_le rfl) rfl rfl (fun _ => (so_bigE g5))) rfl rfl (so_le rfl) (show 1 + 1 ≤ d0 + 8 by omega) dX21_step_97 ?_
        refine jr_if_eq (tgt := 136) dX21_step_100 rfl (fun c53 => ?_) (fun c53 => ?_)
        · have hf := so_t c53 hf
          refine jr_sub [0, 1, 3] rfl ?_
          exact hJ10 (-1 : Int32) hf
        · have hf := so_f c53 hf
          refine jr_iconst dX21_step_103 ic_2 ?_
          refine jr_istore (lv' := [(0, .ref a0), (1, .ref r2), (3, .ref r2), (4, .int (2 : Int32))]) dX21_step_104 (so_le rfl) rfl ?_
          refine jr_goto (tgt := 136) dX21_step_106 rfl ?_
          refine jr_sub [0, 1, 3] rfl ?_
          exact hJ10 (2 : Int32) hf
      · have hf := so_f c50 hf
        by_cases c54 : r7 = (111375 : Int32)
        · have hf := so_t c54 hf
          refine jr_lsIn (off := 50) (tgt := 64) (111375 : Int32) c54 dX21_step_14 rfl (by decide) rfl ?_
          refine jr_aload_n dX21_step_64 rfl rfl jv_rr ?_
          refine jr_ldcS (i := 15) (tx := "put") (show (RX21, 60, "put", 15) ∈ jw_lits from by decide +kernel) dX21_step_65 ?_
          obtain ⟨r56, h55, hf⟩ := so_b hf
          refine jr_call (st := []) (lk_X21_62_26 26 (so_i1 rfl)) (wJ9_equals r2 2074 S8 (of_decide_eq_true g4) (so_i1 rfl) (so_bigE g5) h55) (jk_r2 26 (so_m1 (of_decide_eq_true g4)) (so_le rfl) rfl rfl (fun _ => (so_bigE g5))) rfl rfl (so_le rfl) (show 1 + 1 ≤ d0 + 8 by omega) dX21_step_67 ?_
          refine jr_if_eq (tgt := 136) dX21_step_70 rfl (fun c57 => ?_) (fun c57 => ?_)
          · have hf := so_t c57 hf
            refine jr_sub [0, 1, 3] rfl ?_
            exact hJ10 (-1 : Int32) hf
          · have hf := so_f c57 hf
            refine jr_iconst dX21_step_73 ic_0 ?_
            refine jr_istore (lv' := [(0, .ref a0), (1, .ref r2), (3, .ref r2), (4, .int (0 : Int32))]) dX21_step_74 (so_le rfl) rfl ?_
            refine jr_goto (tgt := 136) dX21_step_76 rfl ?_
            refine jr_sub [0, 1, 3] rfl ?_
            exact hJ10 (0 : Int32) hf
        · have hf := so_f c54 hf
          by_cases c58 : r7 = (3552391 : Int32)
          · have hf := so_t c58 hf
            refine jr_lsIn (off := 65) (tgt := 79) (3552391 : Int32) c58 dX21_step_14 rfl (by decide) rfl ?_
            refine jr_aload_n dX21_step_79 rfl rfl jv_rr ?_
            refine jr_ldcS (i := 16) (tx := "take") (show (RX21, 65, "take", 16) ∈ jw_lits from by decide +kernel) dX21_step_80 ?_
            obtain ⟨r60, h59, hf⟩ := so_b hf
            refine jr_call (st := []) (lk_X21_62_26 26 (so_i1 rfl)) (wJ9_equals r2 2202 S8 (of_decide_eq_true g4) (so_i1 rfl) (so_bigE g5) h59) (jk_r2 26 (so_m1 (of_decide_eq_true g4)) (so_le rfl) rfl rfl (fun _ => (so_bigE g5))) rfl rfl (so_le rfl) (show 1 + 1 ≤ d0 + 8 by omega) dX21_step_82 ?_
            refine jr_if_eq (tgt := 136) dX21_step_85 rfl (fun c61 => ?_) (fun c61 => ?_)
            · have hf := so_t c61 hf
              refine jr_sub [0, 1, 3] rfl ?_
              exact hJ10 (-1 : Int32) hf
            · have hf := so_f c61 hf
              refine jr_iconst dX21_step_88 ic_1 ?_
              refine jr_istore (lv' := [(0, .ref a0), (1, .ref r2), (3, .ref r2), (4, .int (1 : Int32))]) dX21_step_89 (so_le rfl) rfl ?_
              refine jr_goto (tgt := 136) dX21_step_91 rfl ?_
              refine jr_sub [0, 1, 3] rfl ?_
              exact hJ10 (1 : Int32) hf
          · have hf := so_f c58 hf
            by_cases c62 : r7 = (92746592 : Int32)
            · have hf := so_t c62 hf
              refine jr_lsIn (off := 110) (tgt := 124) (92746592 : Int32) c62 dX21_step_14 rfl (by decide) rfl ?_
              refine jr_aload_n dX21_step_124 rfl rfl jv_rr ?_
              refine jr_ldcS (i := 19) (tx := "again") (show (RX21, 71, "again", 19) ∈ jw_lits from by decide +kernel) dX21_step_125 ?_
              obtain ⟨r64, h63, hf⟩ := so_b hf
              refine jr_call (st := []) (lk_X21_62_26 26 (so_i1 rfl)) (wJ9_equals r2 2586 S8 (of_decide_eq_true g4) (so_i1 rfl) (so_bigE g5) h63) (jk_r2 26 (so_m1 (of_decide_eq_true g4)) (so_le rfl) rfl rfl (fun _ => (so_bigE g5))) rfl rfl (so_le rfl) (show 1 + 1 ≤ d0 + 8 by omega) dX21_step_127 ?_
              refine jr_if_eq (tgt := 136) dX21_step_130 rfl (fun c65 => ?_) (fun c65 => ?_)
              · have hf := so_t c65 hf
                refine jr_sub [0, 1, 3] rfl ?_
                exact hJ10 (-1 : Int32) hf
              · have hf := so_f c65 hf
                refine jr_iconst dX21_step_133 ic_4 ?_
                refine jr_istore (lv' := [(0, .ref a0), (1, .ref r2), (3, .ref r2), (4, .int (4 : Int32))]) dX21_step_134 (so_le rfl) rfl ?_
                refine jr_sub [0, 1, 3] rfl ?_
                exact hJ10 (4 : Int32) hf
            · have hf := so_f c62 hf
              refine jr_lsOut (tgt := 136) [(99228 : Int32), (106916 : Int32), (111375 : Int32), (3552391 : Int32), (92746592 : Int32)] (by decide) (List.forall_mem_cons.mpr ⟨c46, List.forall_mem_cons.mpr ⟨c50, List.forall_mem_cons.mpr ⟨c54, List.forall_mem_cons.mpr ⟨c58, List.forall_mem_cons.mpr ⟨c62, fun _ h => by cases h⟩⟩⟩⟩⟩) dX21_step_14 rfl rfl ?_
              refine jr_sub [0, 1, 3] rfl ?_
              exact hJ10 (-1 : Int32) hf
