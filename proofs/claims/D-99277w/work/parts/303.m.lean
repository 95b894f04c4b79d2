/-! printed: functions and walks -/
set_option maxRecDepth 100000
set_option linter.unusedVariables false
/- X9_need -/
abbrev kX9_need : jx_K := (cX9_need, 2, RX9, 5, (Option.none : Option Jvm.ClassFile.FieldType), "need", [])
def fX9_need (a0 : Nat) (a1 : Int32) (S : so_St) : Option ((Unit ⊕ Nat) × so_St) :=
  so_b2 (fX9_sign a0 S) fun r2 S3 =>
  if r2 = a1 then
  (so_let (so_sI S3 a0 2 ((so_I S3 a0 2) + (1 : Int32))) fun S5 =>
  some (.inl (), S5))
  else
  (so_b2 (fX9_wrong a0 S3) fun r7 S8 =>
  so_gd (decide (r7 % 64 ∈ [3])) fun _ =>
  some (.inr r7, S8))
set_option maxHeartbeats 4000000 in
set_option maxRecDepth 100000 in
theorem wX9_need {res : Unit ⊕ Nat} {S' : so_St}  (a0 : Nat) (a1 : Int32)  (S : so_St) (k_a0 : a0 % 64 ∈ [2, 5, 13, 19]) (hf : fX9_need a0 a1 S = some (res, S')) : jx_Sp 5 yX9_need (ws_ yX9_need cX9_need 2 (Option.none : Option Jvm.ClassFile.FieldType)) [.ref a0, .int a1] S (so_ov res) S' := by
  refine jx_of (plainFor_of_name (by decide)) (so_le rfl) ?_
  show jg_ (S, S', so_ov res) kX9_need 0 [(0, .ref a0), (1, .int a1)] [] S
  unfold fX9_need at hf
  refine jr_aload_n dX9_need_0 rfl rfl jv_rr ?_
  obtain ⟨r2, S3, h1, hf⟩ := so_b2E hf
  refine jr_callM (st := []) lk_X9_22_2_5_13_19 (wX9_sign a0 S k_a0 h1) k_a0 rfl rfl rfl (so_le rfl) (so_le rfl) dX9_need_1 ?_
  refine jr_iload_n dX9_need_4 rfl rfl ?_
  refine jr_icmp_eq (tgt := 13) dX9_need_5 rfl (fun c4 => ?_) (fun c4 => ?_)
  · have hf := so_t c4 hf
    refine jr_aload_n dX9_need_13 rfl rfl jv_rr ?_
    refine jr_dup dX9_need_14 rfl ?_
    refine jr_getI fl_X9_19_2_5_13_19 k_a0 (so_n26 rfl) dX9_need_15 ?_
    refine jr_iconst dX9_need_18 ic_1 ?_
    refine jr_iadd dX9_need_19 ?_
    refine jr_putI fp_X9_19_2_5_13_19 k_a0 (so_n26 rfl) (fun h => by cases h) rfl rfl dX9_need_20 ?_
    refine so_let_e hf (fun S5 hf => ?_)
    obtain ⟨rfl, rfl⟩ := so_e2 hf
    exact jr_vret rfl dX9_need_23
  · have hf := so_f c4 hf
    refine jr_aload_n dX9_need_8 rfl rfl jv_rr ?_
    obtain ⟨r7, S8, h6, hf⟩ := so_b2E hf
    obtain ⟨g9, hf⟩ := so_gdE hf
    refine jr_callM (st := []) lk_X9_45_2_5_13_19 (wX9_wrong a0 S3 k_a0 h6) k_a0 rfl rfl rfl (so_le rfl) (so_le rfl) dX9_need_9 ?_
    obtain ⟨rfl, rfl⟩ := so_e2 hf
    exact jr_athrow (so_n63 (of_decide_eq_true g9) rfl) dX9_need_12 (jr_out (so_l29 (of_decide_eq_true g9) rfl).1 (so_l29 (of_decide_eq_true g9) rfl).2 rfl)

/- X10_reads -/
abbrev kX10_reads : jx_K := (cX10_reads, 2, RX10, 8, (Option.some (Jvm.ClassFile.FieldType.object "TunedHouses$Told")), "reads", [])
def LX10_reads_2 (f0 : Nat) (k24 : so_St → Option ((Nat ⊕ Nat) × so_St)) : Nat → Int32 → so_St → Option ((Nat ⊕ Nat) × so_St)
  | 0, _, _ => none
  | n + 1, v1, S2 =>
    if (8 : Int32) ≤ v1 then
    (k24 S2)
    else
    ((so_rk (so_R S2 f0 5) [1]).bind fun p4 =>
    (so_rk (so_R S2 p4 1) [50]).bind fun p6 =>
    so_gd (so_in v1 (so_l S2 p6)) fun _ =>
    so_let (so_sI S2 p6 v1.toNatClampNeg (-1 : Int32)) fun S9 =>
    LX10_reads_2 f0 k24 n (v1 + (1 : Int32)) S9)
set_option maxHeartbeats 4000000 in
set_option maxRecDepth 100000 in
theorem wX10_reads_2 {res : Nat ⊕ Nat} {S' : so_St} {S0 : so_St}   (f0 : Nat)   (k_f0 : f0 % 64 ∈ [2]) (k24 : so_St → Option ((Nat ⊕ Nat) × so_St)) (h24 : ∀ (S10 : so_St), k24 S10 = some (res, S') → jg_ (S0, S', so_or res) kX10_reads 24 [(0, .ref f0)] [] S10) : ∀ (n : Nat) (v1 : Int32) (S2 : so_St), LX10_reads_2 f0 k24 n v1 S2 = some (res, S') → jg_ (S0, S', so_or res) kX10_reads 2 [(0, .ref f0), (1, .int v1)] [] S2 := by
  intro n
  induction n with
  | zero =>
    intro v1 S2 hf
    exact so_no hf
  | succ n ih =>
    intro v1 S2 hf
    rw [LX10_reads_2] at hf
    refine jr_iload_n dX10_reads_2 rfl rfl ?_
    refine jr_bipush dX10_reads_3 bp_8 ?_
    refine jr_icmp_ge (tgt := 24) dX10_reads_5 rfl (fun c3 => ?_) (fun c3 => ?_)
    · have hf := so_t c3 hf
      refine jr_sub [0] rfl ?_
      exact h24 S2 hf
    · have hf := so_f c3 hf
      refine jr_aload_n dX10_reads_8 rfl rfl jv_rr ?_
      refine jr_getR fl_X10_14_2 k_f0 (so_n26 rfl) dX10_reads_9 ?_
      obtain ⟨p4, h5, hf⟩ := so_b hf
      obtain ⟨h5, k_p4⟩ := so_rk_s h5
      refine jr_rf h5 ?_
      refine jr_getR fl_X10_20_1 k_p4 (so_n26 rfl) dX10_reads_12 ?_
      obtain ⟨p6, h7, hf⟩ := so_b hf
      obtain ⟨h7, k_p6⟩ := so_rk_s h7
      refine jr_rf h7 ?_
      refine jr_iload_n dX10_reads_15 rfl rfl ?_
      refine jr_iconst dX10_reads_16 ic_m1 ?_
      obtain ⟨g8, hf⟩ := so_gdE hf
      refine jr_iastore (so_m1 k_p6) (so_inE g8) dX10_reads_17 ?_
      refine so_let_e hf (fun S9 hf => ?_)
      refine jr_iinc (v := v1 + (1 : Int32)) (lv' := [(0, .ref f0), (1, .int (v1 + (1 : Int32)))]) dX10_reads_18 rfl rfl (so_le rfl) rfl ?_
      refine jr_goto (tgt := 2) dX10_reads_21 rfl ?_
      exact ih (v1 + (1 : Int32)) S9 hf
def LX10_reads_29 (f0 : Nat) (k75 : so_St → Option ((Nat ⊕ Nat) × so_St)) : Nat → so_St → Option ((Nat ⊕ Nat) × so_St)
  | 0, _ => none
  | n + 1, S15 =>
    if (so_I S15 f0 1) ≤ (so_I S15 f0 2) then
    (k75 S15)
    else
    (so_b2 (fX9_word f0 S15) fun r18 S19 =>
    so_gd (decide (r18 % 64 ∈ [26])) fun _ =>
    so_b3 (fX10_clause f0 r18 S19) (fun r21 S22 =>
    so_b3 (fX9_need f0 (59 : Int32) S22) (fun r27 S28 =>
    (so_rk (so_R S28 f0 5) [1]).bind fun p33 =>
    so_let (so_sI S28 p33 9 ((so_I S28 p33 9) + (1 : Int32))) fun S35 =>
    so_b2 (fX9_sign f0 S35) fun r37 S38 =>
    LX10_reads_29 f0 k75 n S38)
    (fun x29 S30 =>
    so_gd (decide (x29 % 64 ∈ [3])) fun _ =>
    some (.inr x29, S30)))
    (fun x23 S24 =>
    so_gd (decide (x23 % 64 ∈ [3])) fun _ =>
    some (.inr x23, S24)))
set_option maxHeartbeats 4000000 in
set_option maxRecDepth 100000 in
theorem wX10_reads_29 {res : Nat ⊕ Nat} {S' : so_St} {S0 : so_St}   (f0 : Nat)   (k_f0 : f0 % 64 ∈ [2]) (k75 : so_St → Option ((Nat ⊕ Nat) × so_St)) (h75 : ∀ (S39 : so_St), k75 S39 = some (res, S') → jg_ (S0, S', so_or res) kX10_reads 75 [(0, .ref f0)] [] S39) : ∀ (n : Nat) (S15 : so_St), LX10_reads_29 f0 k75 n S15 = some (res, S') → jg_ (S0, S', so_or res) kX10_reads 29 [(0, .ref f0)] [] S15 := by
  intro n
  induction n with
  | zero =>
    intro S15 hf
    exact so_no hf
  | succ n ih =>
    intro S15 hf
    rw [LX10_reads_29] at hf
    refine jr_aload_n dX10_reads_29 rfl rfl jv_rr ?_
    refine jr_getI fl_X10_28_2 k_f0 (so_n26 rfl) dX10_reads_30 ?_
    refine jr_aload_n dX10_reads_33 rfl rfl jv_rr ?_
    refine jr_getI fl_X10_32_2 k_f0 (so_n26 rfl) dX10_reads_34 ?_
    refine jr_icmp_ge (tgt := 75) dX10_reads_37 rfl (fun c16 => ?_) (fun c16 => ?_)
    · have hf := so_t c16 hf
      exact h75 S15 hf
    · have hf := so_f c16 hf
      refine jr_aload_n dX10_reads_40 rfl rfl jv_rr ?_
      refine jr_aload_n dX10_reads_41 rfl rfl jv_rr ?_
      obtain ⟨r18, S19, h17, hf⟩ := so_b2E hf
      obtain ⟨g20, hf⟩ := so_gdE hf
      refine jr_callM (st := [.ref f0]) lk_X10_35_2 (wX9_word f0 S15 (so_ms k_f0 rfl) h17) k_f0 rfl rfl rfl (so_le rfl) (so_le rfl) dX10_reads_42 ?_
      rcases so_b3E hf with ⟨r21, S22, h25, hf⟩ | ⟨x23, S24, h25, hf⟩
      · refine jr_callM (st := []) lk_X10_39_2 (wX10_clause f0 r18 S19 k_f0 (of_decide_eq_true g20) h25) k_f0 rfl rfl rfl (so_le rfl) (so_le rfl) dX10_reads_45 ?_
        refine jr_aload_n dX10_reads_48 rfl rfl jv_rr ?_
        refine jr_bipush dX10_reads_49 bp_59 ?_
        rcases so_b3E hf with ⟨r27, S28, h31, hf⟩ | ⟨x29, S30, h31, hf⟩
        · refine jr_callM (st := []) lk_X10_43_2 (wX9_need f0 (59 : Int32) S22 (so_ms k_f0 rfl) h31) k_f0 rfl rfl rfl (so_le rfl) (so_le rfl) dX10_reads_51 ?_
          refine jr_aload_n dX10_reads_54 rfl rfl jv_rr ?_
          refine jr_getR fl_X10_14_2 k_f0 (so_n26 rfl) dX10_reads_55 ?_
          obtain ⟨p33, h34, hf⟩ := so_b hf
          obtain ⟨h34, k_p33⟩ := so_rk_s h34
          refine jr_rf h34 ?_
          refine jr_dup dX10_reads_58 rfl ?_
          refine jr_getI fl_X10_47_1 k_p33 (so_n26 rfl) dX10_reads_59 ?_
          refine jr_iconst dX10_reads_62 ic_1 ?_
          refine jr_iadd dX10_reads_63 ?_
          refine jr_putI fp_X10_47_1 k_p33 (so_n26 rfl) (fun h => by cases h) rfl rfl dX10_reads_64 ?_
          refine so_let_e hf (fun S35 hf => ?_)
          refine jr_aload_n dX10_reads_67 rfl rfl jv_rr ?_
          obtain ⟨r37, S38, h36, hf⟩ := so_b2E hf
          refine jr_callM (st := []) lk_X10_24_2 (wX9_sign f0 S35 (so_ms k_f0 rfl) h36) k_f0 rfl rfl rfl (so_le rfl) (so_le rfl) dX10_reads_68 ?_
          refine jr_pop dX10_reads_71 rfl ?_
          refine jr_goto (tgt := 29) dX10_reads_72 rfl ?_
          exact ih S38 hf
        · refine jr_callMX (st := []) lk_X10_43_2 (wX9_need f0 (59 : Int32) S22 (so_ms k_f0 rfl) h31) k_f0 rfl rfl rfl (so_le rfl) (so_le rfl) dX10_reads_51 ?_
          obtain ⟨g32, hf⟩ := so_gdE hf
          obtain ⟨rfl, rfl⟩ := so_e2 hf
          exact jr_out (so_l29 (of_decide_eq_true g32) rfl).1 (so_l29 (of_decide_eq_true g32) rfl).2 rfl
      · refine jr_callMX (st := []) lk_X10_39_2 (wX10_clause f0 r18 S19 k_f0 (of_decide_eq_true g20) h25) k_f0 rfl rfl rfl (so_le rfl) (so_le rfl) dX10_reads_45 ?_
        obtain ⟨g26, hf⟩ := so_gdE hf
        obtain ⟨rfl, rfl⟩ := so_e2 hf
        exact jr_out (so_l29 (of_decide_eq_true g26) rfl).1 (so_l29 (of_decide_eq_true g26) rfl).2 rfl
def fX10_reads (a0 : Nat) (S : so_St) : Option ((Nat ⊕ Nat) × so_St) :=
  LX10_reads_2 a0 (fun (S11 : so_St) =>
  so_b2 (fX9_sign a0 S11) fun r13 S14 =>
  LX10_reads_29 a0 (fun (S40 : so_St) =>
  (so_rk (so_R S40 a0 5) [1]).bind fun p41 =>
  some (.inl p41, S40)) so_N S14) so_N (0 : Int32) S
set_option maxHeartbeats 4000000 in
set_option maxRecDepth 100000 in
theorem wX10_reads {res : Nat ⊕ Nat} {S' : so_St}  (a0 : Nat)  (S : so_St) (k_a0 : a0 % 64 ∈ [2]) (hf : fX10_reads a0 S = some (res, S')) : jx_Sp 8 yX10_reads (ws_ yX10_reads cX10_reads 2 (Option.some (Jvm.ClassFile.FieldType.object "TunedHouses$Told"))) [.ref a0] S (so_or res) S' := by
  refine jx_of (plainFor_of_name (by decide)) (so_le rfl) ?_
  show jg_ (S, S', so_or res) kX10_reads 0 [(0, .ref a0)] [] S
  unfold fX10_reads at hf
  refine jr_iconst dX10_reads_0 ic_0 ?_
  refine jr_istore_n (lv' := [(0, .ref a0), (1, .int (0 : Int32))]) dX10_reads_1 rfl (so_le rfl) rfl ?_
  refine wX10_reads_2 a0 k_a0 _ (fun S11 hf => ?_) so_N (0 : Int32) S hf
  refine jr_aload_n dX10_reads_24 rfl rfl jv_rr ?_
  obtain ⟨r13, S14, h12, hf⟩ := so_b2E hf
  refine jr_callM (st := []) lk_X10_24_2 (wX9_sign a0 S11 (so_ms k_a0 rfl) h12) k_a0 rfl rfl rfl (so_le rfl) (so_le rfl) dX10_reads_25 ?_
  refine jr_pop dX10_reads_28 rfl ?_
  refine wX10_reads_29 a0 k_a0 _ (fun S40 hf => ?_) so_N S14 hf
  refine jr_aload_n dX10_reads_75 rfl rfl jv_rr ?_
  refine jr_getR fl_X10_14_2 k_a0 (so_n26 rfl) dX10_reads_76 ?_
  obtain ⟨p41, h42, hf⟩ := so_b hf
  obtain ⟨h42, k_p41⟩ := so_rk_s h42
  refine jr_rf h42 ?_
  obtain ⟨rfl, rfl⟩ := so_e2 hf
  exact jr_aret rfl (Or.inl ⟨_, rfl⟩) jv_rr dX10_reads_79

/- X1_failed -/
abbrev kX1_failed : jx_K := (cX1_failed, 2, RX1, 0, (Option.some Jvm.ClassFile.FieldType.int), "failed", [])
def fX1_failed (a0 : Nat) (a1 : Nat) (S : so_St) : Option (Int32 × so_St) :=
  so_let (so_sI S a0 16 (so_I S a1 7)) fun S1 =>
  some (((so_I S1 a1 6) - (10 : Int32)), S1)
set_option maxHeartbeats 4000000 in
set_option maxRecDepth 100000 in
theorem wX1_failed {res : Int32} {S' : so_St}  (a0 : Nat) (a1 : Nat)  (S : so_St) (k_a0 : a0 % 64 ∈ [0]) (k_a1 : a1 % 64 ∈ [3]) (hf : fX1_failed a0 a1 S = some (res, S')) : jx_Sp 0 yX1_failed (ws_ yX1_failed cX1_failed 2 (Option.some Jvm.ClassFile.FieldType.int)) [.ref a0, .ref a1] S (.inl (some (.int res))) S' := by
  refine jx_of (plainFor_of_name (by decide)) (so_le rfl) ?_
  show jg_ (S, S', .inl (some (.int res))) kX1_failed 0 [(0, .ref a0), (1, .ref a1)] [] S
  unfold fX1_failed at hf
  refine jr_aload_n dX1_failed_0 rfl rfl jv_rr ?_
  refine jr_aload_n dX1_failed_1 rfl rfl jv_rr ?_
  refine jr_getI fl_X1_164_3 k_a1 (so_n26 rfl) dX1_failed_2 ?_
  refine jr_putI fp_X1_69_0 k_a0 (so_n26 rfl) (fun h => by cases h) rfl rfl dX1_failed_5 ?_
  refine so_let_e hf (fun S1 hf => ?_)
  refine jr_aload_n dX1_failed_8 rfl rfl jv_rr ?_
  refine jr_getI fl_X1_169_3 k_a1 (so_n26 rfl) dX1_failed_9 ?_
  refine jr_bipush dX1_failed_12 bp_10 ?_
  refine jr_isub dX1_failed_14 ?_
  obtain ⟨rfl, rfl⟩ := so_e2 hf
  exact jr_iret rfl rfl dX1_failed_15

/- X3_init -/
abbrev kX3_init : jx_K := (cX3_init, 1, RX3, 1, (Option.none : Option Jvm.ClassFile.FieldType), "<init>", [])
def fX3_init (a0 : Nat) : Unit :=
  ()
set_option maxHeartbeats 4000000 in
set_option maxRecDepth 100000 in
theorem wX3_init  (a0 : Nat)  (S : so_St) (k_a0 : a0 % 64 ∈ [6, 7, 8, 9, 10, 11, 12, 20, 21]) (hf : fX3_init a0 = ()) : jx_Sp 1 yX3_init (ws_ yX3_init cX3_init 1 (Option.none : Option Jvm.ClassFile.FieldType)) [.ref a0] S (.inl none) S := by
  refine jx_of (plainFor_of_name (by decide)) (so_le rfl) ?_
  show jg_ (S, S, .inl none) kX3_init 0 [(0, .ref a0)] [] S
  unfold fX3_init at hf
  refine jr_aload_n dX3_init_0 rfl rfl jv_rr ?_
  refine jr_objInit (so_n63 k_a0 rfl) q570 q155 q156 (so_le rfl) (so_le rfl) dX3_init_1 ?_
  exact jr_vret rfl dX3_init_4

/- X6_init -/
abbrev kX6_init : jx_K := (cX6_init, 2, RX6, 2, (Option.none : Option Jvm.ClassFile.FieldType), "<init>", [])
def fX6_init (a0 : Nat) (a1 : Int32) (S : so_St) : Option so_St :=
  so_let (so_sI S a0 0 a1) fun S1 =>
  some S1
set_option maxHeartbeats 4000000 in
set_option maxRecDepth 100000 in
theorem wX6_init {S' : so_St}  (a0 : Nat) (a1 : Int32)  (S : so_St) (k_a0 : a0 % 64 ∈ [21]) (hf : fX6_init a0 a1 S = some S') : jx_Sp 2 yX6_init (ws_ yX6_init cX6_init 2 (Option.none : Option Jvm.ClassFile.FieldType)) [.ref a0, .int a1] S (.inl none) S' := by
  refine jx_of (plainFor_of_name (by decide)) (so_le rfl) ?_
  show jg_ (S, S', .inl none) kX6_init 0 [(0, .ref a0), (1, .int a1)] [] S
  unfold fX6_init at hf
  refine jr_aload_n dX6_init_0 rfl rfl jv_rr ?_
  refine jr_call (st := []) lk_X6_1 (wX3_init a0 S (so_ms k_a0 rfl) rfl) (jk_r1 (so_n63 k_a0 rfl)) rfl rfl (so_le rfl) (so_le rfl) dX6_init_1 ?_
  refine jr_aload_n dX6_init_4 rfl rfl jv_rr ?_
  refine jr_iload_n dX6_init_5 rfl rfl ?_
  refine jr_putI fp_X6_7_21 k_a0 (so_n26 rfl) (fun _ => rfl) rfl rfl dX6_init_6 ?_
  refine so_let_e hf (fun S1 hf => ?_)
  obtain rfl := so_e1 hf
  exact jr_vret rfl dX6_init_9

/- X4_init -/
abbrev kX4_init : jx_K := (cX4_init, 3, RX4, 2, (Option.none : Option Jvm.ClassFile.FieldType), "<init>", [])
def fX4_init (a0 : Nat) (a1 : Nat) (a2 : Nat) (S : so_St) : Option so_St :=
  so_let (so_sR S a0 0 (some a1)) fun S1 =>
  so_let (so_sR S1 a0 1 (some a2)) fun S2 =>
  some S2
set_option maxHeartbeats 4000000 in
set_option maxRecDepth 100000 in
theorem wX4_init {S' : so_St}  (a0 : Nat) (a1 : Nat) (a2 : Nat)  (S : so_St) (k_a0 : a0 % 64 ∈ [7, 8, 9, 10, 11, 12, 20]) (k_a1 : a1 % 64 ∈ [6, 7, 8, 9, 10, 11, 12, 20, 21]) (k_a2 : a2 % 64 ∈ [6, 7, 8, 9, 10, 11, 12, 20, 21]) (hf : fX4_init a0 a1 a2 S = some S') : jx_Sp 2 yX4_init (ws_ yX4_init cX4_init 3 (Option.none : Option Jvm.ClassFile.FieldType)) [.ref a0, .ref a1, .ref a2] S (.inl none) S' := by
  refine jx_of (plainFor_of_name (by decide)) (so_le rfl) ?_
  show jg_ (S, S', .inl none) kX4_init 0 [(0, .ref a0), (1, .ref a1), (2, .ref a2)] [] S
  unfold fX4_init at hf
  refine jr_aload_n dX4_init_0 rfl rfl jv_rr ?_
  refine jr_call (st := []) lk_X4_1 (wX3_init a0 S (so_ms k_a0 rfl) rfl) (jk_r1 (so_n63 k_a0 rfl)) rfl rfl (so_le rfl) (so_le rfl) dX4_init_1 ?_
  refine jr_aload_n dX4_init_4 rfl rfl jv_rr ?_
  refine jr_aload_n dX4_init_5 rfl rfl jv_rr ?_
  refine jr_putR (r := (some a1)) rfl fp_X4_7_7_8_9_10_11_12_20 k_a0 (so_n26 rfl) (fun _ => rfl) rfl dX4_init_6 ?_
  refine so_let_e hf (fun S1 hf => ?_)
  refine jr_aload_n dX4_init_9 rfl rfl jv_rr ?_
  refine jr_aload_n dX4_init_10 rfl rfl jv_rr ?_
  refine jr_putR (r := (some a2)) rfl fp_X4_13_7_8_9_10_11_12_20 k_a0 (so_n26 rfl) (fun _ => rfl) rfl dX4_init_11 ?_
  refine so_let_e hf (fun S2 hf => ?_)
  obtain rfl := so_e1 hf
  exact jr_vret rfl dX4_init_14

/- X5_init -/
abbrev kX5_init : jx_K := (cX5_init, 3, RX5, 3, (Option.none : Option Jvm.ClassFile.FieldType), "<init>", [])
def fX5_init (a0 : Nat) (a1 : Nat) (a2 : Nat) (S : so_St) : Option so_St :=
  (fX4_init a0 a1 a2 S).bind fun S3 =>
  some S3
set_option maxHeartbeats 4000000 in
set_option maxRecDepth 100000 in
theorem wX5_init {S' : so_St}  (a0 : Nat) (a1 : Nat) (a2 : Nat)  (S : so_St) (k_a0 : a0 % 64 ∈ [20]) (k_a1 : a1 % 64 ∈ [6, 7, 8, 9, 10, 11, 12, 20, 21]) (k_a2 : a2 % 64 ∈ [6, 7, 8, 9, 10, 11, 12, 20, 21]) (hf : fX5_init a0 a1 a2 S = some S') : jx_Sp 3 yX5_init (ws_ yX5_init cX5_init 3 (Option.none : Option Jvm.ClassFile.FieldType)) [.ref a0, .ref a1, .ref a2] S (.inl none) S' := by
  refine jx_of (plainFor_of_name (by decide)) (so_le rfl) ?_
  show jg_ (S, S', .inl none) kX5_init 0 [(0, .ref a0), (1, .ref a1), (2, .ref a2)] [] S
  unfold fX5_init at hf
  refine jr_aload_n dX5_init_0 rfl rfl jv_rr ?_
  refine jr_aload_n dX5_init_1 rfl rfl jv_rr ?_
  refine jr_aload_n dX5_init_2 rfl rfl jv_rr ?_
  obtain ⟨S3, h1, hf⟩ := so_b hf
  refine jr_call (st := []) lk_X5_1 (wX4_init a0 a1 a2 S (so_ms k_a0 rfl) k_a1 k_a2 h1) (jk_r1 (so_n63 k_a0 rfl)) rfl rfl (so_le rfl) (so_le rfl) dX5_init_3 ?_
  obtain rfl := so_e1 hf
  exact jr_vret rfl dX5_init_6

/- X1_custom -/
abbrev kX1_custom : jx_K := (cX1_custom, 0, RX1, 4, (Option.some (Jvm.ClassFile.FieldType.object "TunedHouses$Term")), "custom", [])
def fX1_custom  (S : so_St) : Option (Nat × so_St) :=
  so_let (so_new S 20 0 2) fun S1 =>
  so_let (so_new S1 21 0 1) fun S2 =>
  (fX6_init (so_at S1 21) (0 : Int32) S2).bind fun S5 =>
  so_let (so_new S5 21 0 1) fun S6 =>
  (fX6_init (so_at S5 21) (1 : Int32) S6).bind fun S9 =>
  (fX5_init (so_at S 20) (so_at S1 21) (so_at S5 21) S9).bind fun S12 =>
  some ((so_at S 20), S12)
set_option maxHeartbeats 4000000 in
set_option maxRecDepth 100000 in
theorem wX1_custom {res : Nat} {S' : so_St}    (S : so_St)  (hf : fX1_custom S = some (res, S')) : jx_Sp 4 yX1_custom (ws_ yX1_custom cX1_custom 0 (Option.some (Jvm.ClassFile.FieldType.object "TunedHouses$Term"))) [] S (.inl (some (.ref res))) S' := by
  refine jx_of (plainFor_of_name (by decide)) (so_le rfl) ?_
  show jg_ (S, S', .inl (some (.ref res))) kX1_custom 0 [] [] S
  unfold fX1_custom at hf
  refine jr_new nw_X1_3 dX1_custom_0 ?_
  refine so_let_e hf (fun S1 hf => ?_)
  refine jr_dup dX1_custom_3 rfl ?_
  refine jr_new nw_X1_5 dX1_custom_4 ?_
  refine so_let_e hf (fun S2 hf => ?_)
  refine jr_dup dX1_custom_7 rfl ?_
  refine jr_iconst dX1_custom_8 ic_0 ?_
  obtain ⟨S5, h3, hf⟩ := so_b hf
  refine jr_call (st := [.ref (so_at S1 21), .ref (so_at S 20), .ref (so_at S 20)]) lk_X1_7 (wX6_init (so_at S1 21) (0 : Int32) S2 (so_atk rfl) h3) (jk_r1 (so_n63 (so_atk rfl) rfl)) rfl rfl (so_le rfl) (so_le rfl) dX1_custom_9 ?_
  refine jr_new nw_X1_5 dX1_custom_12 ?_
  refine so_let_e hf (fun S6 hf => ?_)
  refine jr_dup dX1_custom_15 rfl ?_
  refine jr_iconst dX1_custom_16 ic_1 ?_
  obtain ⟨S9, h7, hf⟩ := so_b hf
  refine jr_call (st := [.ref (so_at S5 21), .ref (so_at S1 21), .ref (so_at S 20), .ref (so_at S 20)]) lk_X1_7 (wX6_init (so_at S5 21) (1 : Int32) S6 (so_atk rfl) h7) (jk_r1 (so_n63 (so_atk rfl) rfl)) rfl rfl (so_le rfl) (so_le rfl) dX1_custom_17 ?_
  obtain ⟨S12, h10, hf⟩ := so_b hf
  refine jr_call (st := [.ref (so_at S 20)]) lk_X1_11 (wX5_init (so_at S 20) (so_at S1 21) (so_at S5 21) S9 (so_atk rfl) (so_ms (so_atk rfl) rfl) (so_ms (so_atk rfl) rfl) h10) (jk_r1 (so_n63 (so_atk rfl) rfl)) rfl rfl (so_le rfl) (so_le rfl) dX1_custom_20 ?_
  obtain ⟨rfl, rfl⟩ := so_e2 hf
  exact jr_aret rfl (Or.inl ⟨_, rfl⟩) jv_rr dX1_custom_23

/- X7_begins -/
abbrev kX7_begins : jx_K := (cX7_begins, 2, RX7, 0, (Option.some (Jvm.ClassFile.FieldType.object "TunedHouses$Terrace")), "begins", [])
def LX7_begins_2 (f0 : Nat) (k35 : so_St → Option (Nat × so_St)) : Nat → Int32 → so_St → Option (Nat × so_St)
  | 0, _, _ => none
  | n + 1, v1, S2 =>
    if (6 : Int32) ≤ v1 then
    (k35 S2)
    else
    ((so_rk (so_R S2 f0 0) [50]).bind fun p4 =>
    so_gd (so_in v1 (so_l S2 p4)) fun _ =>
    so_let (so_sI S2 p4 v1.toNatClampNeg (-1 : Int32)) fun S7 =>
    (so_rk (so_R S7 f0 1) [50]).bind fun p8 =>
    so_gd (so_in v1 (so_l S7 p8)) fun _ =>
    so_let (so_sI S7 p8 v1.toNatClampNeg (0 : Int32)) fun S11 =>
    (so_rk (so_R S11 f0 2) [50]).bind fun p12 =>
    so_gd (so_in v1 (so_l S11 p12)) fun _ =>
    so_let (so_sI S11 p12 v1.toNatClampNeg (0 : Int32)) fun S15 =>
    LX7_begins_2 f0 k35 n (v1 + (1 : Int32)) S15)
set_option maxHeartbeats 4000000 in
set_option maxRecDepth 100000 in
theorem wX7_begins_2 {res : Nat} {S' : so_St} {S0 : so_St}   (f0 : Nat)   (k_f0 : f0 % 64 ∈ [22]) (k35 : so_St → Option (Nat × so_St)) (h35 : ∀ (S16 : so_St), k35 S16 = some (res, S') → jg_ (S0, S', .inl (some (.ref res))) kX7_begins 35 [(0, .ref f0)] [] S16) : ∀ (n : Nat) (v1 : Int32) (S2 : so_St), LX7_begins_2 f0 k35 n v1 S2 = some (res, S') → jg_ (S0, S', .inl (some (.ref res))) kX7_begins 2 [(0, .ref f0), (1, .int v1)] [] S2 := by
  intro n
  induction n with
  | zero =>
    intro v1 S2 hf
    exact so_no hf
  | succ n ih =>
    intro v1 S2 hf
    rw [LX7_begins_2] at hf
    refine jr_iload_n dX7_begins_2 rfl rfl ?_
    refine jr_bipush dX7_begins_3 bp_6 ?_
    refine jr_icmp_ge (tgt := 35) dX7_begins_5 rfl (fun c3 => ?_) (fun c3 => ?_)
    · have hf := so_t c3 hf
      refine jr_sub [0] rfl ?_
      exact h35 S2 hf
    · have hf := so_f c3 hf
      refine jr_aload_n dX7_begins_8 rfl rfl jv_rr ?_
      refine jr_getR fl_X7_15_22 k_f0 (so_n26 rfl) dX7_begins_9 ?_
      obtain ⟨p4, h5, hf⟩ := so_b hf
      obtain ⟨h5, k_p4⟩ := so_rk_s h5
      refine jr_rf h5 ?_
      refine jr_iload_n dX7_begins_12 rfl rfl ?_
      refine jr_iconst dX7_begins_13 ic_m1 ?_
      obtain ⟨g6, hf⟩ := so_gdE hf
      refine jr_iastore (so_m1 k_p4) (so_inE g6) dX7_begins_14 ?_
      refine so_let_e hf (fun S7 hf => ?_)
      refine jr_aload_n dX7_begins_15 rfl rfl jv_rr ?_
      refine jr_getR fl_X7_19_22 k_f0 (so_n26 rfl) dX7_begins_16 ?_
      obtain ⟨p8, h9, hf⟩ := so_b hf
      obtain ⟨h9, k_p8⟩ := so_rk_s h9
      refine jr_rf h9 ?_
      refine jr_iload_n dX7_begins_19 rfl rfl ?_
      refine jr_iconst dX7_begins_20 ic_0 ?_
      obtain ⟨g10, hf⟩ := so_gdE hf
      refine jr_iastore (so_m1 k_p8) (so_inE g10) dX7_begins_21 ?_
      refine so_let_e hf (fun S11 hf => ?_)
      refine jr_aload_n dX7_begins_22 rfl rfl jv_rr ?_
      refine jr_getR fl_X7_22_22 k_f0 (so_n26 rfl) dX7_begins_23 ?_
      obtain ⟨p12, h13, hf⟩ := so_b hf
      obtain ⟨h13, k_p12⟩ := so_rk_s h13
      refine jr_rf h13 ?_
      refine jr_iload_n dX7_begins_26 rfl rfl ?_
      refine jr_iconst dX7_begins_27 ic_0 ?_
      obtain ⟨g14, hf⟩ := so_gdE hf
      refine jr_iastore (so_m1 k_p12) (so_inE g14) dX7_begins_28 ?_
      refine so_let_e hf (fun S15 hf => ?_)
      refine jr_iinc (v := v1 + (1 : Int32)) (lv' := [(0, .ref f0), (1, .int (v1 + (1 : Int32)))]) dX7_begins_29 rfl rfl (so_le rfl) rfl ?_
      refine jr_goto (tgt := 2) dX7_begins_32 rfl ?_
      exact ih (v1 + (1 : Int32)) S15 hf
def LX7_begins_37 (f0 : Nat) (k56 : so_St → Option (Nat × so_St)) : Nat → Int32 → so_St → Option (Nat × so_St)
  | 0, _, _ => none
  | n + 1, v18, S19 =>
    if (80 : Int32) ≤ v18 then
    (k56 S19)
    else
    ((so_rk (so_R S19 f0 3) [50]).bind fun p21 =>
    so_gd (so_in v18 (so_l S19 p21)) fun _ =>
    so_let (so_sI S19 p21 v18.toNatClampNeg (0 : Int32)) fun S24 =>
    LX7_begins_37 f0 k56 n (v18 + (1 : Int32)) S24)
set_option maxHeartbeats 4000000 in
set_option maxRecDepth 100000 in
theorem wX7_begins_37 {res : Nat} {S' : so_St} {S0 : so_St}   (f0 : Nat)   (k_f0 : f0 % 64 ∈ [22]) (k56 : so_St → Option (Nat × so_St)) (h56 : ∀ (S25 : so_St), k56 S25 = some (res, S') → jg_ (S0, S', .inl (some (.ref res))) kX7_begins 56 [(0, .ref f0)] [] S25) : ∀ (n : Nat) (v18 : Int32) (S19 : so_St), LX7_begins_37 f0 k56 n v18 S19 = some (res, S') → jg_ (S0, S', .inl (some (.ref res))) kX7_begins 37 [(0, .ref f0), (1, .int v18)] [] S19 := by
  intro n
  induction n with
  | zero =>
    intro v18 S19 hf
    exact so_no hf
  | succ n ih =>
    intro v18 S19 hf
    rw [LX7_begins_37] at hf
    refine jr_iload_n dX7_begins_37 rfl rfl ?_
    refine jr_bipush dX7_begins_38 bp_80 ?_
    refine jr_icmp_ge (tgt := 56) dX7_begins_40 rfl (fun c20 => ?_) (fun c20 => ?_)
    · have hf := so_t c20 hf
      refine jr_sub [0] rfl ?_
      exact h56 S19 hf
    · have hf := so_f c20 hf
      refine jr_aload_n dX7_begins_43 rfl rfl jv_rr ?_
      refine jr_getR fl_X7_25_22 k_f0 (so_n26 rfl) dX7_begins_44 ?_
      obtain ⟨p21, h22, hf⟩ := so_b hf
      obtain ⟨h22, k_p21⟩ := so_rk_s h22
      refine jr_rf h22 ?_
      refine jr_iload_n dX7_begins_47 rfl rfl ?_
      refine jr_iconst dX7_begins_48 ic_0 ?_
      obtain ⟨g23, hf⟩ := so_gdE hf
      refine jr_iastore (so_m1 k_p21) (so_inE g23) dX7_begins_49 ?_
      refine so_let_e hf (fun S24 hf => ?_)
      refine jr_iinc (v := v18 + (1 : Int32)) (lv' := [(0, .ref f0), (1, .int (v18 + (1 : Int32)))]) dX7_begins_50 rfl rfl (so_le rfl) rfl ?_
      refine jr_goto (tgt := 37) dX7_begins_53 rfl ?_
      exact ih (v18 + (1 : Int32)) S24 hf
def LX7_begins_58 (f0 : Nat) (k102 : so_St → Option (Nat × so_St)) : Nat → Int32 → so_St → Option (Nat × so_St)
  | 0, _, _ => none
  | n + 1, v27, S28 =>
    (so_rk (so_R S28 f0 10) [0]).bind fun p29 =>
    (so_rk (so_R S28 p29 0) [1]).bind fun p31 =>
    if (so_I S28 p31 6) ≤ v27 then
    (k102 S28)
    else
    ((so_rk (so_R S28 f0 3) [50]).bind fun p34 =>
    (so_rk (so_R S28 f0 10) [0]).bind fun p36 =>
    (so_rk (so_R S28 p36 0) [1]).bind fun p38 =>
    (so_rk (so_R S28 p38 0) [50]).bind fun p40 =>
    so_gd (so_in v27 (so_l S28 p40)) fun _ =>
    so_gd (so_in (((10 : Int32) * v27) + (so_I S28 p40 v27.toNatClampNeg)) (so_l S28 p34)) fun _ =>
    so_let (so_sI S28 p34 (((10 : Int32) * v27) + (so_I S28 p40 v27.toNatClampNeg)).toNatClampNeg (50 : Int32)) fun S44 =>
    LX7_begins_58 f0 k102 n (v27 + (1 : Int32)) S44)
set_option maxHeartbeats 4000000 in
set_option maxRecDepth 100000 in
theorem wX7_begins_58 {res : Nat} {S' : so_St} {S0 : so_St}   (f0 : Nat)   (k_f0 : f0 % 64 ∈ [22]) (k102 : so_St → Option (Nat × so_St)) (h102 : ∀ (S45 : so_St), k102 S45 = some (res, S') → jg_ (S0, S', .inl (some (.ref res))) kX7_begins 102 [(0, .ref f0)] [] S45) : ∀ (n : Nat) (v27 : Int32) (S28 : so_St), LX7_begins_58 f0 k102 n v27 S28 = some (res, S') → jg_ (S0, S', .inl (some (.ref res))) kX7_begins 58 [(0, .ref f0), (1, .int v27)] [] S28 := by
  intro n
  induction n with
  | zero =>
    intro v27 S28 hf
    exact so_no hf
  | succ n ih =>
    intro v27 S28 hf
    rw [LX7_begins_58] at hf
    refine jr_iload_n dX7_begins_58 rfl rfl ?_
    refine jr_aload_n dX7_begins_59 rfl rfl jv_rr ?_
    refine jr_getR fl_X7_3_22 k_f0 (so_n26 rfl) dX7_begins_60 ?_
    obtain ⟨p29, h30, hf⟩ := so_b hf
    obtain ⟨h30, k_p29⟩ := so_rk_s h30
    refine jr_rf h30 ?_
    refine jr_getR fl_X7_31_0 k_p29 (so_n26 rfl) dX7_begins_63 ?_
    obtain ⟨p31, h32, hf⟩ := so_b hf
    obtain ⟨h32, k_p31⟩ := so_rk_s h32
    refine jr_rf h32 ?_
    refine jr_getI fl_X7_35_1 k_p31 (so_n26 rfl) dX7_begins_66 ?_
    refine jr_icmp_ge (tgt := 102) dX7_begins_69 rfl (fun c33 => ?_) (fun c33 => ?_)
    · have hf := so_t c33 hf
      refine jr_sub [0] rfl ?_
      exact h102 S28 hf
    · have hf := so_f c33 hf
      refine jr_aload_n dX7_begins_72 rfl rfl jv_rr ?_
      refine jr_getR fl_X7_25_22 k_f0 (so_n26 rfl) dX7_begins_73 ?_
      obtain ⟨p34, h35, hf⟩ := so_b hf
      obtain ⟨h35, k_p34⟩ := so_rk_s h35
      refine jr_rf h35 ?_
      refine jr_bipush dX7_begins_76 bp_10 ?_
      refine jr_iload_n dX7_begins_78 rfl rfl ?_
      refine jr_imul dX7_begins_79 ?_
      refine jr_aload_n dX7_begins_80 rfl rfl jv_rr ?_
      refine jr_getR fl_X7_3_22 k_f0 (so_n26 rfl) dX7_begins_81 ?_
      obtain ⟨p36, h37, hf⟩ := so_b hf
      obtain ⟨h37, k_p36⟩ := so_rk_s h37
      refine jr_rf h37 ?_
      refine jr_getR fl_X7_31_0 k_p36 (so_n26 rfl) dX7_begins_84 ?_
      obtain ⟨p38, h39, hf⟩ := so_b hf
      obtain ⟨h39, k_p38⟩ := so_rk_s h39
      refine jr_rf h39 ?_
      refine jr_getR fl_X7_41_1 k_p38 (so_n26 rfl) dX7_begins_87 ?_
      obtain ⟨p40, h41, hf⟩ := so_b hf
      obtain ⟨h41, k_p40⟩ := so_rk_s h41
      refine jr_rf h41 ?_
      refine jr_iload_n dX7_begins_90 rfl rfl ?_
      obtain ⟨g42, hf⟩ := so_gdE hf
      refine jr_iaload (so_m1 k_p40) (so_inE g42) dX7_begins_91 ?_
      refine jr_iadd dX7_begins_92 ?_
      refine jr_bipush dX7_begins_93 bp_50 ?_
      obtain ⟨g43, hf⟩ := so_gdE hf
      refine jr_iastore (so_m1 k_p34) (so_inE g43) dX7_begins_95 ?_
      refine so_let_e hf (fun S44 hf => ?_)
      refine jr_iinc (v := v27 + (1 : Int32)) (lv' := [(0, .ref f0), (1, .int (v27 + (1 : Int32)))]) dX7_begins_96 rfl rfl (so_le rfl) rfl ?_
      refine jr_goto (tgt := 58) dX7_begins_99 rfl ?_
      exact ih (v27 + (1 : Int32)) S44 hf
def fX7_begins (a0 : Nat) (S : so_St) : Option (Nat × so_St) :=
  LX7_begins_2 a0 (fun (S17 : so_St) =>
  LX7_begins_37 a0 (fun (S26 : so_St) =>
  LX7_begins_58 a0 (fun (S46 : so_St) =>
  (so_rk (so_R S46 a0 10) [0]).bind fun p47 =>
  (so_rk (so_R S46 p47 0) [1]).bind fun p49 =>
  so_let (so_sI S46 a0 5 (so_I S46 p49 8)) fun S51 =>
  so_let (so_sI S51 a0 6 (0 : Int32)) fun S52 =>
  some (a0, S52)) so_N (0 : Int32) S26) so_N (0 : Int32) S17) so_N (0 : Int32) S
set_option maxHeartbeats 4000000 in
set_option maxRecDepth 100000 in
theorem wX7_begins {res : Nat} {S' : so_St}  (a0 : Nat)  (S : so_St) (k_a0 : a0 % 64 ∈ [22]) (hf : fX7_begins a0 S = some (res, S')) : jx_Sp 0 yX7_begins (ws_ yX7_begins cX7_begins 2 (Option.some (Jvm.ClassFile.FieldType.object "TunedHouses$Terrace"))) [.ref a0] S (.inl (some (.ref res))) S' := by
  refine jx_of (plainFor_of_name (by decide)) (so_le rfl) ?_
  show jg_ (S, S', .inl (some (.ref res))) kX7_begins 0 [(0, .ref a0)] [] S
  unfold fX7_begins at hf
  refine jr_iconst dX7_begins_0 ic_0 ?_
  refine jr_istore_n (lv' := [(0, .ref a0), (1, .int (0 : Int32))]) dX7_begins_1 rfl (so_le rfl) rfl ?_
  refine wX7_begins_2 a0 k_a0 _ (fun S17 hf => ?_) so_N (0 : Int32) S hf
  refine jr_iconst dX7_begins_35 ic_0 ?_
  refine jr_istore_n (lv' := [(0, .ref a0), (1, .int (0 : Int32))]) dX7_begins_36 rfl (so_le rfl) rfl ?_
  refine wX7_begins_37 a0 k_a0 _ (fun S26 hf => ?_) so_N (0 : Int32) S17 hf
  refine jr_iconst dX7_begins_56 ic_0 ?_
  refine jr_istore_n (lv' := [(0, .ref a0), (1, .int (0 : Int32))]) dX7_begins_57 rfl (so_le rfl) rfl ?_
  refine wX7_begins_58 a0 k_a0 _ (fun S46 hf => ?_) so_N (0 : Int32) S26 hf
  refine jr_aload_n dX7_begins_102 rfl rfl jv_rr ?_
  refine jr_aload_n dX7_begins_103 rfl rfl jv_rr ?_
  refine jr_getR fl_X7_3_22 k_a0 (so_n26 rfl) dX7_begins_104 ?_
  obtain ⟨p47, h48, hf⟩ := so_b hf
  obtain ⟨h48, k_p47⟩ := so_rk_s h48
  refine jr_rf h48 ?_
  refine jr_getR fl_X7_31_0 k_p47 (so_n26 rfl) dX7_begins_107 ?_
  obtain ⟨p49, h50, hf⟩ := so_b hf
  obtain ⟨h50, k_p49⟩ := so_rk_s h50
  refine jr_rf h50 ?_
  refine jr_getI fl_X7_44_1 k_p49 (so_n26 rfl) dX7_begins_110 ?_
  refine jr_putI fp_X7_46_22 k_a0 (so_n26 rfl) (fun h => by cases h) rfl rfl dX7_begins_113 ?_
  refine so_let_e hf (fun S51 hf => ?_)
  refine jr_aload_n dX7_begins_116 rfl rfl jv_rr ?_
  refine jr_iconst dX7_begins_117 ic_0 ?_
  refine jr_putI fp_X7_49_22 k_a0 (so_n26 rfl) (fun h => by cases h) rfl rfl dX7_begins_118 ?_
  refine so_let_e hf (fun S52 hf => ?_)
  refine jr_aload_n dX7_begins_121 rfl rfl jv_rr ?_
  obtain ⟨rfl, rfl⟩ := so_e2 hf
  exact jr_aret rfl (Or.inl ⟨_, rfl⟩) jv_rr dX7_begins_122

/- X1_begins -/
abbrev kX1_begins : jx_K := (cX1_begins, 2, RX1, 5, (Option.none : Option Jvm.ClassFile.FieldType), "begins", [])
def LX1_begins_9 (f0 : Nat) (k28 : so_St → Option so_St) : Nat → Int32 → so_St → Option so_St
  | 0, _, _ => none
  | n + 1, v6, S7 =>
    if (61 : Int32) ≤ v6 then
    (k28 S7)
    else
    ((so_rk (so_R S7 f0 3) [50]).bind fun p9 =>
    so_gd (so_in v6 (so_l S7 p9)) fun _ =>
    so_let (so_sI S7 p9 v6.toNatClampNeg (-1 : Int32)) fun S12 =>
    LX1_begins_9 f0 k28 n (v6 + (1 : Int32)) S12)
set_option maxHeartbeats 4000000 in
set_option maxRecDepth 100000 in
theorem wX1_begins_9 {S' : so_St} {S0 : so_St}   (f0 : Nat)   (k_f0 : f0 % 64 ∈ [0]) (k28 : so_St → Option so_St) (h28 : ∀ (S13 : so_St), k28 S13 = some S' → jg_ (S0, S', .inl none) kX1_begins 28 [(0, .ref f0)] [] S13) : ∀ (n : Nat) (v6 : Int32) (S7 : so_St), LX1_begins_9 f0 k28 n v6 S7 = some S' → jg_ (S0, S', .inl none) kX1_begins 9 [(0, .ref f0), (1, .int v6)] [] S7 := by
  intro n
  induction n with
  | zero =>
    intro v6 S7 hf
    exact so_no hf
  | succ n ih =>
    intro v6 S7 hf
    rw [LX1_begins_9] at hf
    refine jr_iload_n dX1_begins_9 rfl rfl ?_
    refine jr_bipush dX1_begins_10 bp_61 ?_
    refine jr_icmp_ge (tgt := 28) dX1_begins_12 rfl (fun c8 => ?_) (fun c8 => ?_)
    · have hf := so_t c8 hf
      refine jr_sub [0] rfl ?_
      exact h28 S7 hf
    · have hf := so_f c8 hf
      refine jr_aload_n dX1_begins_15 rfl rfl jv_rr ?_
      refine jr_getR fl_X1_38_0 k_f0 (so_n26 rfl) dX1_begins_16 ?_
      obtain ⟨p9, h10, hf⟩ := so_b hf
      obtain ⟨h10, k_p9⟩ := so_rk_s h10
      refine jr_rf h10 ?_
      refine jr_iload_n dX1_begins_19 rfl rfl ?_
      refine jr_iconst dX1_begins_20 ic_m1 ?_
      obtain ⟨g11, hf⟩ := so_gdE hf
      refine jr_iastore (so_m1 k_p9) (so_inE g11) dX1_begins_21 ?_
      refine so_let_e hf (fun S12 hf => ?_)
      refine jr_iinc (v := v6 + (1 : Int32)) (lv' := [(0, .ref f0), (1, .int (v6 + (1 : Int32)))]) dX1_begins_22 rfl rfl (so_le rfl) rfl ?_
      refine jr_goto (tgt := 9) dX1_begins_25 rfl ?_
      exact ih (v6 + (1 : Int32)) S12 hf
def fX1_begins (a0 : Nat) (S : so_St) : Option so_St :=
  so_b2 (fX1_custom S) fun r2 S3 =>
  so_gd (decide (r2 % 64 ∈ [6, 7, 8, 9, 10, 11, 12, 20, 21])) fun _ =>
  so_let (so_sR S3 a0 1 (some r2)) fun S5 =>
  LX1_begins_9 a0 (fun (S14 : so_St) =>
  (so_rk (so_R S14 a0 5) [22]).bind fun p15 =>
  so_b2 (fX7_begins p15 S14) fun r18 S19 =>
  so_gd (decide (r18 % 64 ∈ [22])) fun _ =>
  so_let (so_sI S19 a0 11 (0 : Int32)) fun S21 =>
  so_let (so_sI S21 a0 12 (0 : Int32)) fun S22 =>
  so_let (so_sI S22 a0 13 (0 : Int32)) fun S23 =>
  so_let (so_sI S23 a0 17 (0 : Int32)) fun S24 =>
  some S24) so_N (0 : Int32) S5
set_option maxHeartbeats 4000000 in
set_option maxRecDepth 100000 in
theorem wX1_begins {S' : so_St}  (a0 : Nat)  (S : so_St) (k_a0 : a0 % 64 ∈ [0]) (hf : fX1_begins a0 S = some S') : jx_Sp 5 yX1_begins (ws_ yX1_begins cX1_begins 2 (Option.none : Option Jvm.ClassFile.FieldType)) [.ref a0] S (.inl none) S' := by
  refine jx_of (plainFor_of_name (by decide)) (so_le rfl) ?_
  show jg_ (S, S', .inl none) kX1_begins 0 [(0, .ref a0)] [] S
  unfold fX1_begins at hf
  refine jr_aload_n dX1_begins_0 rfl rfl jv_rr ?_
  obtain ⟨r2, S3, h1, hf⟩ := so_b2E hf
  obtain ⟨g4, hf⟩ := so_gdE hf
  refine jr_call (st := [.ref a0]) lk_X1_26 (wX1_custom S h1) jk_r0 rfl rfl (so_le rfl) (so_le rfl) dX1_begins_1 ?_
  refine jr_putR (r := (some r2)) rfl fp_X1_30_0 k_a0 (so_n26 rfl) (fun h => by cases h) rfl dX1_begins_4 ?_
  refine so_let_e hf (fun S5 hf => ?_)
  refine jr_iconst dX1_begins_7 ic_0 ?_
  refine jr_istore_n (lv' := [(0, .ref a0), (1, .int (0 : Int32))]) dX1_begins_8 rfl (so_le rfl) rfl ?_
  refine wX1_begins_9 a0 k_a0 _ (fun S14 hf => ?_) so_N (0 : Int32) S5 hf
  refine jr_aload_n dX1_begins_28 rfl rfl jv_rr ?_
  refine jr_getR fl_X1_49_0 k_a0 (so_n26 rfl) dX1_begins_29 ?_
  obtain ⟨p15, h16, hf⟩ := so_b hf
  obtain ⟨h16, k_p15⟩ := so_rk_s h16
  refine jr_rf h16 ?_
  obtain ⟨r18, S19, h17, hf⟩ := so_b2E hf
  obtain ⟨g20, hf⟩ := so_gdE hf
  refine jr_callM (st := []) lk_X1_97_22 (wX7_begins p15 S14 k_p15 h17) k_p15 rfl rfl rfl (so_le rfl) (so_le rfl) dX1_begins_32 ?_
  refine jr_pop dX1_begins_35 rfl ?_
  refine jr_aload_n dX1_begins_36 rfl rfl jv_rr ?_
  refine jr_iconst dX1_begins_37 ic_0 ?_
  refine jr_putI fp_X1_100_0 k_a0 (so_n26 rfl) (fun h => by cases h) rfl rfl dX1_begins_38 ?_
  refine so_let_e hf (fun S21 hf => ?_)
  refine jr_aload_n dX1_begins_41 rfl rfl jv_rr ?_
  refine jr_iconst dX1_begins_42 ic_0 ?_
  refine jr_putI fp_X1_103_0 k_a0 (so_n26 rfl) (fun h => by cases h) rfl rfl dX1_begins_43 ?_
  refine so_let_e hf (fun S22 hf => ?_)
  refine jr_aload_n dX1_begins_46 rfl rfl jv_rr ?_
  refine jr_iconst dX1_begins_47 ic_0 ?_
  refine jr_putI fp_X1_106_0 k_a0 (so_n26 rfl) (fun h => by cases h) rfl rfl dX1_begins_48 ?_
  refine so_let_e hf (fun S23 hf => ?_)
  refine jr_aload_n dX1_begins_51 rfl rfl jv_rr ?_
  refine jr_iconst dX1_begins_52 ic_0 ?_
  refine jr_putI fp_X1_109_0 k_a0 (so_n26 rfl) (fun h => by cases h) rfl rfl dX1_begins_53 ?_
  refine so_let_e hf (fun S24 hf => ?_)
  obtain rfl := so_e1 hf
  exact jr_vret rfl dX1_begins_56

/- X1_pianos -/
abbrev kX1_pianos : jx_K := (cX1_pianos, 1, RX1, 1, (Option.some Jvm.ClassFile.FieldType.int), "pianos", [])
def fX1_pianos (a0 : Nat) (S : so_St) : Option Int32 :=
  (so_rk (so_R S a0 0) [1]).bind fun p1 =>
  (so_rk (so_R S p1 5) [24]).bind fun p3 =>
  (fJ2_size p3 S).bind fun r6 =>
  some r6
set_option maxHeartbeats 4000000 in
set_option maxRecDepth 100000 in
theorem wX1_pianos {res : Int32}  (a0 : Nat)  (S : so_St) (k_a0 : a0 % 64 ∈ [0]) (hf : fX1_pianos a0 S = some res) : jx_Sp 1 yX1_pianos (ws_ yX1_pianos cX1_pianos 1 (Option.some Jvm.ClassFile.FieldType.int)) [.ref a0] S (.inl (some (.int res))) S := by
  refine jx_of (plainFor_of_name (by decide)) (so_le rfl) ?_
  show jg_ (S, S, .inl (some (.int res))) kX1_pianos 0 [(0, .ref a0)] [] S
  unfold fX1_pianos at hf
  refine jr_aload_n dX1_pianos_0 rfl rfl jv_rr ?_
  refine jr_getR fl_X1_22_0 k_a0 (so_n26 rfl) dX1_pianos_1 ?_
  obtain ⟨p1, h2, hf⟩ := so_b hf
  obtain ⟨h2, k_p1⟩ := so_rk_s h2
  refine jr_rf h2 ?_
  refine jr_getR fl_X1_112_1 k_p1 (so_n26 rfl) dX1_pianos_4 ?_
  obtain ⟨p3, h4, hf⟩ := so_b hf
  obtain ⟨h4, k_p3⟩ := so_rk_s h4
  refine jr_rf h4 ?_
  obtain ⟨r6, h5, hf⟩ := so_b hf
  refine jr_callM (st := []) lk_X1_116_24 (wJ2_size p3 S k_p3 h5) k_p3 rfl rfl rfl (so_le rfl) (so_le rfl) dX1_pianos_7 ?_
  obtain rfl := so_e1 hf
  exact jr_iret rfl rfl dX1_pianos_10

/- X1_terrace -/
abbrev kX1_terrace : jx_K := (cX1_terrace, 5, RX1, 9, (Option.some Jvm.ClassFile.FieldType.int), "terrace", tableOf [(21, 54, 61, 165), (21, 54, 75, 0), (61, 68, 75, 0), (75, 77, 75, 0)])
def fX1_terrace (a0 : Nat) (a1 : Int32) (S : so_St) : Option ((Int32 ⊕ Nat) × so_St) :=
  so_j (κ := Int32 → Option ((Int32 ⊕ Nat) × so_St)) (ρ := Option ((Int32 ⊕ Nat) × so_St)) (fun (v1 : Int32) =>
  so_b3 (fX1_need a0 v1 S) (fun r3 S4 =>
  so_let (so_sI S4 a0 16 (-1 : Int32)) fun S9 =>
  so_let (so_new S9 2 0 6) fun S10 =>
  (so_rk (so_R S10 a0 18) [51]).bind fun p11 =>
  (fX10_init (so_at S9 2) p11 a1 S10).bind fun S15 =>
  so_b3 (fX10_reads (so_at S9 2) S15) (fun r16 S17 =>
  so_gd (decide (r16 % 64 ∈ [1])) fun _ =>
  so_let (so_sR S17 a0 0 (some r16)) fun S26 =>
  (fX1_begins a0 S26).bind fun S29 =>
  (fX1_pianos a0 S29).bind fun r31 =>
  so_let (so_sI S29 a0 15 (0 : Int32)) fun S32 =>
  some (.inl r31, S32))
  (fun x18 S19 =>
  if x18 % 64 = 3 then
  (so_b2 (fX1_failed a0 x18 S19) fun r23 S24 =>
  so_let (so_sI S24 a0 15 (0 : Int32)) fun S25 =>
  some (.inl r23, S25))
  else
  none))
  (fun x5 S6 =>
  so_gd (decide (x5 % 64 ∈ [27])) fun _ =>
  some (.inr x5, S6)))
  (fun J2 =>
  so_j (κ := Unit → Option ((Int32 ⊕ Nat) × so_St)) (ρ := Option ((Int32 ⊕ Nat) × so_St)) (fun (_u : Unit) =>
  J2 (0 : Int32))
  (fun J33 =>
  if a1 < (0 : Int32) then
  (J33 ())
  else
  (if (so_I S a0 15) < a1 then
  (J33 ())
  else
  (J2 (1 : Int32)))))
set_option maxHeartbeats 4000000 in
set_option maxRecDepth 100000 in
theorem wX1_terrace {res : Int32 ⊕ Nat} {S' : so_St}  (a0 : Nat) (a1 : Int32)  (S : so_St) (k_a0 : a0 % 64 ∈ [0]) (hf : fX1_terrace a0 a1 S = some (res, S')) : jx_Sp 9 yX1_terrace (wsW_ yX1_terrace cX1_terrace 5 (Option.some Jvm.ClassFile.FieldType.int) [(21, 54, 61, 165), (21, 54, 75, 0), (61, 68, 75, 0), (75, 77, 75, 0)]) [.ref a0, .int a1] S (so_oi res) S' := by
  refine jx_ofW (by decide) (so_le rfl) ?_
  show jg_ (S, S', so_oi res) kX1_terrace 0 [(0, .ref a0), (1, .int a1)] [] S
  unfold fX1_terrace at hf
  refine jr_aload_n dX1_terrace_0 rfl rfl jv_rr ?_
  refine jr_iload_n dX1_terrace_1 rfl rfl ?_
  refine so_jE hf (fun J => ∀ (v1 : Int32), J v1 = some (res, S') → jg_ (S, S', so_oi res) kX1_terrace 18 [(0, .ref a0), (1, .int a1)] [.int v1, .ref a0] S) (fun v1 hf => ?_) (fun J2 hJ2 hf => ?_)
  · rcases so_b3E hf with ⟨r3, S4, h7, hf⟩ | ⟨x5, S6, h7, hf⟩
    · refine jr_callM (st := []) lk_X1_172_0 (wX1_need a0 v1 S k_a0 h7) k_a0 rfl rfl rfl (so_le rfl) (so_le rfl) dX1_terrace_18 ?_
      refine jr_aload_n dX1_terrace_21 rfl rfl jv_rr ?_
      refine jr_iconst dX1_terrace_22 ic_m1 ?_
      refine jr_putI fp_X1_69_0 k_a0 (so_n26 rfl) (fun h => by cases h) rfl rfl dX1_terrace_23 ?_
      refine so_let_e hf (fun S9 hf => ?_)
      refine jr_aload_n dX1_terrace_26 rfl rfl jv_rr ?_
      refine jr_new nw_X1_176 dX1_terrace_27 ?_
      refine so_let_e hf (fun S10 hf => ?_)
      refine jr_dup dX1_terrace_30 rfl ?_
      refine jr_aload_n dX1_terrace_31 rfl rfl jv_rr ?_
      refine jr_getR fl_X1_73_0 k_a0 (so_n26 rfl) dX1_terrace_32 ?_
      obtain ⟨p11, h12, hf⟩ := so_b hf
      obtain ⟨h12, k_p11⟩ := so_rk_s h12
      refine jr_rf h12 ?_
      refine jr_iload_n dX1_terrace_35 rfl rfl ?_
      obtain ⟨S15, h13, hf⟩ := so_b hf
      refine jr_call (st := [.ref (so_at S9 2), .ref a0]) lk_X1_178 (wX10_init (so_at S9 2) p11 a1 S10 (so_atk rfl) k_p11 h13) (jk_r1 (so_n63 (so_atk rfl) rfl)) rfl rfl (so_le rfl) (so_le rfl) dX1_terrace_36 ?_
      rcases so_b3E hf with ⟨r16, S17, h20, hf⟩ | ⟨x18, S19, h20, hf⟩
      · obtain ⟨g_r16, hf⟩ := so_gdE hf
        refine jr_callM (st := [.ref a0]) lk_X1_181_2 (wX10_reads (so_at S9 2) S15 (so_atk rfl) h20) (so_atk rfl) rfl rfl rfl (so_le rfl) (so_le rfl) dX1_terrace_39 ?_
        refine jr_putR (r := (some r16)) rfl fp_X1_22_0 k_a0 (so_n26 rfl) (fun h => by cases h) rfl dX1_terrace_42 ?_
        refine so_let_e hf (fun S26 hf => ?_)
        refine jr_aload_n dX1_terrace_45 rfl rfl jv_rr ?_
        obtain ⟨S29, h27, hf⟩ := so_b hf
        refine jr_callM (st := []) lk_X1_94_0 (wX1_begins a0 S26 k_a0 h27) k_a0 rfl rfl rfl (so_le rfl) (so_le rfl) dX1_terrace_46 ?_
        refine jr_aload_n dX1_terrace_49 rfl rfl jv_rr ?_
        obtain ⟨r31, h30, hf⟩ := so_b hf
        refine jr_callM (st := []) lk_X1_156_0 (wX1_pianos a0 S29 k_a0 h30) k_a0 rfl rfl rfl (so_le rfl) (so_le rfl) dX1_terrace_50 ?_
        refine jr_istore_n (lv' := [(0, .ref a0), (1, .int a1), (2, .int r31)]) dX1_terrace_53 rfl (so_le rfl) rfl ?_
        refine jr_aload_n dX1_terrace_54 rfl rfl jv_rr ?_
        refine jr_iconst dX1_terrace_55 ic_0 ?_
        refine jr_putI fp_X1_158_0 k_a0 (so_n26 rfl) (fun h => by cases h) rfl rfl dX1_terrace_56 ?_
        refine so_let_e hf (fun S32 hf => ?_)
        refine jr_iload_n dX1_terrace_59 rfl rfl ?_
        obtain ⟨rfl, rfl⟩ := so_e2 hf
        exact jr_iret rfl rfl dX1_terrace_60
      · refine jr_callMX (st := [.ref a0]) lk_X1_181_2 (wX10_reads (so_at S9 2) S15 (so_atk rfl) h20) (so_atk rfl) rfl rfl rfl (so_le rfl) (so_le rfl) dX1_terrace_39 ?_
        by_cases c21 : x18 % 64 = 3
        · have hf := so_t c21 hf
          refine jr_catch (by rw [c21]; decide) (by rw [c21]; decide) [] ⟨21, 54, 61, 165⟩ [(⟨21, 54, 75, 0⟩ : ExceptionTableEntry), (⟨61, 68, 75, 0⟩ : ExceptionTableEntry), (⟨75, 77, 75, 0⟩ : ExceptionTableEntry)] rfl (fun _ h => by cases h) rfl (by decide) q868 (by rw [c21]; exact q1065) ?_
          refine jr_astore_n (lv' := [(0, .ref a0), (1, .int a1), (2, .ref x18)]) dX1_terrace_61 rfl (so_le rfl) jv_rr rfl ?_
          refine jr_aload_n dX1_terrace_62 rfl rfl jv_rr ?_
          refine jr_aload_n dX1_terrace_63 rfl rfl jv_rr ?_
          obtain ⟨r23, S24, h22, hf⟩ := so_b2E hf
          refine jr_callM (st := []) lk_X1_185_0 (wX1_failed a0 x18 S19 k_a0 (so_i1 c21) h22) k_a0 rfl rfl rfl (so_le rfl) (so_le rfl) dX1_terrace_64 ?_
          refine jr_istore_n (lv' := [(0, .ref a0), (1, .int a1), (2, .ref x18), (3, .int r23)]) dX1_terrace_67 rfl (so_le rfl) rfl ?_
          refine jr_aload_n dX1_terrace_68 rfl rfl jv_rr ?_
          refine jr_iconst dX1_terrace_69 ic_0 ?_
          refine jr_putI fp_X1_158_0 k_a0 (so_n26 rfl) (fun h => by cases h) rfl rfl dX1_terrace_70 ?_
          refine so_let_e hf (fun S25 hf => ?_)
          refine jr_iload_n dX1_terrace_73 rfl rfl ?_
          obtain ⟨rfl, rfl⟩ := so_e2 hf
          exact jr_iret rfl rfl dX1_terrace_74
        · have hf := so_f c21 hf
          exact so_no hf
    · refine jr_callMX (st := []) lk_X1_172_0 (wX1_need a0 v1 S k_a0 h7) k_a0 rfl rfl rfl (so_le rfl) (so_le rfl) dX1_terrace_18 ?_
      obtain ⟨g8, hf⟩ := so_gdE hf
      obtain ⟨rfl, rfl⟩ := so_e2 hf
      exact jr_out (so_l29 (of_decide_eq_true g8) rfl).1 (so_l29 (of_decide_eq_true g8) rfl).2 rfl
  · refine so_jE hf (fun J => ∀ (u0 : Unit), J u0 = some (res, S') → jg_ (S, S', so_oi res) kX1_terrace 17 [(0, .ref a0), (1, .int a1)] [.ref a0] S) (fun _u hf => ?_) (fun J33 hJ33 hf => ?_)
    · refine jr_iconst dX1_terrace_17 ic_0 ?_
      exact hJ2 (0 : Int32) hf
    · refine jr_if_lt (tgt := 17) dX1_terrace_2 rfl (fun c34 => ?_) (fun c34 => ?_)
      · have hf := so_t c34 hf
        exact hJ33 () hf
      · have hf := so_f c34 hf
        refine jr_iload_n dX1_terrace_5 rfl rfl ?_
        refine jr_aload_n dX1_terrace_6 rfl rfl jv_rr ?_
        refine jr_getI fl_X1_158_0 k_a0 (so_n26 rfl) dX1_terrace_7 ?_
        refine jr_icmp_gt (tgt := 17) dX1_terrace_10 rfl (fun c35 => ?_) (fun c35 => ?_)
        · have hf := so_t c35 hf
          exact hJ33 () hf
        · have hf := so_f c35 hf
          refine jr_iconst dX1_terrace_13 ic_1 ?_
          refine jr_goto (tgt := 18) dX1_terrace_14 rfl ?_
          exact hJ2 (1 : Int32) hf

/- X0_terrace -/
abbrev kX0_terrace : jx_K := (cX0_terrace, 4, RX0, 10, (Option.some Jvm.ClassFile.FieldType.int), "terrace", tableOf [(0, 9, 12, 13)])
def fX0_terrace (a0 : Nat) (a1 : Int32) (a2 : Nat) (S : so_St) : Option (Int32 × so_St) :=
  so_b3 (fX1_terrace a0 a1 S) (fun r1 S2 =>
  so_gd (so_in (0 : Int32) (so_l S2 a2)) fun _ =>
  so_let (so_sL S2 a2 (0 : Int32).toNatClampNeg r1.toInt64) fun S8 =>
  some ((0 : Int32), S8))
  (fun x3 S4 =>
  if x3 % 64 = 27 then
  (some ((1 : Int32), S4))
  else
  none)
set_option maxHeartbeats 4000000 in
set_option maxRecDepth 100000 in
theorem wX0_terrace {res : Int32} {S' : so_St}  (a0 : Nat) (a1 : Int32) (a2 : Nat)  (S : so_St) (k_a0 : a0 % 64 ∈ [0]) (k_a2 : a2 % 64 ∈ [53]) (hf : fX0_terrace a0 a1 a2 S = some (res, S')) : jx_Sp 10 yX0_terrace (wsW_ yX0_terrace cX0_terrace 4 (Option.some Jvm.ClassFile.FieldType.int) [(0, 9, 12, 13)]) [.ref a0, .int a1, .ref a2] S (.inl (some (.int res))) S' := by
  refine jx_ofW (by decide) (so_le rfl) ?_
  show jg_ (S, S', .inl (some (.int res))) kX0_terrace 0 [(0, .ref a0), (1, .int a1), (2, .ref a2)] [] S
  unfold fX0_terrace at hf
  refine jr_aload_n dX0_terrace_0 rfl rfl jv_rr ?_
  refine jr_iconst dX0_terrace_1 ic_0 ?_
  refine jr_aload_n dX0_terrace_2 rfl rfl jv_rr ?_
  refine jr_iload_n dX0_terrace_3 rfl rfl ?_
  rcases so_b3E hf with ⟨r1, S2, h5, hf⟩ | ⟨x3, S4, h5, hf⟩
  · refine jr_callM (st := [.int (0 : Int32), .ref a2]) lk_X0_7_0 (wX1_terrace a0 a1 S k_a0 h5) k_a0 rfl rfl rfl (so_le rfl) (so_le rfl) dX0_terrace_4 ?_
    refine jr_i2l dX0_terrace_7 ?_
    obtain ⟨g7, hf⟩ := so_gdE hf
    refine jr_lastore (so_m1 k_a2) (so_inE g7) dX0_terrace_8 ?_
    refine so_let_e hf (fun S8 hf => ?_)
    refine jr_goto (tgt := 15) dX0_terrace_9 rfl ?_
    refine jr_iconst dX0_terrace_15 ic_0 ?_
    obtain ⟨rfl, rfl⟩ := so_e2 hf
    exact jr_iret rfl rfl dX0_terrace_16
  · refine jr_callMX (st := [.int (0 : Int32), .ref a2]) lk_X0_7_0 (wX1_terrace a0 a1 S k_a0 h5) k_a0 rfl rfl rfl (so_le rfl) (so_le rfl) dX0_terrace_4 ?_
    by_cases c6 : x3 % 64 = 27
    · have hf := so_t c6 hf
      refine jr_catch (by rw [c6]; decide) (by rw [c6]; decide) [] ⟨0, 9, 12, 13⟩ [] rfl (fun _ h => by cases h) rfl (by decide) q863 (by rw [c6]; exact q181) ?_
      refine jr_astore_n (lv' := [(0, .ref a0), (1, .int a1), (2, .ref a2), (3, .ref x3)]) dX0_terrace_12 rfl (so_le rfl) jv_rr rfl ?_
      refine jr_iconst dX0_terrace_13 ic_1 ?_
      obtain ⟨rfl, rfl⟩ := so_e2 hf
      exact jr_iret rfl rfl dX0_terrace_14
    · have hf := so_f c6 hf
      exact so_no hf

/- X13_init -/
abbrev kX13_init : jx_K := (cX13_init, 3, RX13, 2, (Option.none : Option Jvm.ClassFile.FieldType), "<init>", [])
def fX13_init (a0 : Nat) (a1 : Nat) (a2 : Int32) (S : so_St) : Option so_St :=
  (fX9_init a0 a1 a2 S).bind fun S3 =>
  some S3
set_option maxHeartbeats 4000000 in
set_option maxRecDepth 100000 in
theorem wX13_init {S' : so_St}  (a0 : Nat) (a1 : Nat) (a2 : Int32)  (S : so_St) (k_a0 : a0 % 64 ∈ [5]) (k_a1 : a1 % 64 ∈ [51]) (hf : fX13_init a0 a1 a2 S = some S') : jx_Sp 2 yX13_init (ws_ yX13_init cX13_init 3 (Option.none : Option Jvm.ClassFile.FieldType)) [.ref a0, .ref a1, .int a2] S (.inl none) S' := by
  refine jx_of (plainFor_of_name (by decide)) (so_le rfl) ?_
  show jg_ (S, S', .inl none) kX13_init 0 [(0, .ref a0), (1, .ref a1), (2, .int a2)] [] S
  unfold fX13_init at hf
  refine jr_aload_n dX13_init_0 rfl rfl jv_rr ?_
  refine jr_aload_n dX13_init_1 rfl rfl jv_rr ?_
  refine jr_iload_n dX13_init_2 rfl rfl ?_
  obtain ⟨S3, h1, hf⟩ := so_b hf
  refine jr_call (st := []) lk_X13_3 (wX9_init a0 a1 a2 S (so_ms k_a0 rfl) k_a1 h1) (jk_r1 (so_n63 k_a0 rfl)) rfl rfl (so_le rfl) (so_le rfl) dX13_init_3 ?_
  obtain rfl := so_e1 hf
  exact jr_vret rfl dX13_init_6

/- X9_opens -/
abbrev kX9_opens : jx_K := (cX9_opens, 2, RX9, 4, (Option.none : Option Jvm.ClassFile.FieldType), "opens", [])
def fX9_opens (a0 : Nat) (a1 : Int32) (S : so_St) : Option ((Unit ⊕ Nat) × so_St) :=
  if (so_I S a0 4) = (6 : Int32) then
  (so_let (so_new S 3 0 8) fun S4 =>
  (fX11_init (so_at S 3) (3 : Int32) (so_I S4 a0 2) S4).bind fun S7 =>
  some (.inr (so_at S 3), S7))
  else
  (so_let (so_sI S a0 2 ((so_I S a0 2) + a1)) fun S2 =>
  so_let (so_sI S2 a0 4 ((so_I S2 a0 4) + (1 : Int32))) fun S3 =>
  some (.inl (), S3))
set_option maxHeartbeats 4000000 in
set_option maxRecDepth 100000 in
theorem wX9_opens {res : Unit ⊕ Nat} {S' : so_St}  (a0 : Nat) (a1 : Int32)  (S : so_St) (k_a0 : a0 % 64 ∈ [2, 5, 13, 19]) (hf : fX9_opens a0 a1 S = some (res, S')) : jx_Sp 4 yX9_opens (ws_ yX9_opens cX9_opens 2 (Option.none : Option Jvm.ClassFile.FieldType)) [.ref a0, .int a1] S (so_ov res) S' := by
  refine jx_of (plainFor_of_name (by decide)) (so_le rfl) ?_
  show jg_ (S, S', so_ov res) kX9_opens 0 [(0, .ref a0), (1, .int a1)] [] S
  unfold fX9_opens at hf
  refine jr_aload_n dX9_opens_0 rfl rfl jv_rr ?_
  refine jr_getI fl_X9_49_2_5_13_19 k_a0 (so_n26 rfl) dX9_opens_1 ?_
  refine jr_bipush dX9_opens_4 bp_6 ?_
  refine jr_icmp_ne (tgt := 22) dX9_opens_6 rfl (fun c1 => ?_) (fun c1 => ?_)
  · have hf := so_f c1 hf
    refine jr_aload_n dX9_opens_22 rfl rfl jv_rr ?_
    refine jr_dup dX9_opens_23 rfl ?_
    refine jr_getI fl_X9_19_2_5_13_19 k_a0 (so_n26 rfl) dX9_opens_24 ?_
    refine jr_iload_n dX9_opens_27 rfl rfl ?_
    refine jr_iadd dX9_opens_28 ?_
    refine jr_putI fp_X9_19_2_5_13_19 k_a0 (so_n26 rfl) (fun h => by cases h) rfl rfl dX9_opens_29 ?_
    refine so_let_e hf (fun S2 hf => ?_)
    refine jr_aload_n dX9_opens_32 rfl rfl jv_rr ?_
    refine jr_dup dX9_opens_33 rfl ?_
    refine jr_getI fl_X9_49_2_5_13_19 k_a0 (so_n26 rfl) dX9_opens_34 ?_
    refine jr_iconst dX9_opens_37 ic_1 ?_
    refine jr_iadd dX9_opens_38 ?_
    refine jr_putI fp_X9_49_2_5_13_19 k_a0 (so_n26 rfl) (fun h => by cases h) rfl rfl dX9_opens_39 ?_
    refine so_let_e hf (fun S3 hf => ?_)
    obtain ⟨rfl, rfl⟩ := so_e2 hf
    exact jr_vret rfl dX9_opens_42
  · have hf := so_t c1 hf
    refine jr_new nw_X9_40 dX9_opens_9 ?_
    refine so_let_e hf (fun S4 hf => ?_)
    refine jr_dup dX9_opens_12 rfl ?_
    refine jr_iconst dX9_opens_13 ic_3 ?_
    refine jr_aload_n dX9_opens_14 rfl rfl jv_rr ?_
    refine jr_getI fl_X9_19_2_5_13_19 k_a0 (so_n26 rfl) dX9_opens_15 ?_
    obtain ⟨S7, h5, hf⟩ := so_b hf
    refine jr_call (st := [.ref (so_at S 3)]) lk_X9_42 (wX11_init (so_at S 3) (3 : Int32) (so_I S4 a0 2) S4 (so_atk rfl) h5) (jk_r1 (so_n63 (so_atk rfl) rfl)) rfl rfl (so_le rfl) (so_le rfl) dX9_opens_18 ?_
    obtain ⟨rfl, rfl⟩ := so_e2 hf
    exact jr_athrow (so_n63 (so_atk rfl) rfl) dX9_opens_21 (jr_out (so_l29 (so_atk rfl) rfl).1 (so_l29 (so_atk rfl) rfl).2 rfl)

/- X14_init -/
abbrev kX14_init : jx_K := (cX14_init, 2, RX14, 2, (Option.none : Option Jvm.ClassFile.FieldType), "<init>", [])
def fX14_init (a0 : Nat) (a1 : Int32) (S : so_St) : Option so_St :=
  so_let (so_sI S a0 0 a1) fun S1 =>
  some S1
set_option maxHeartbeats 4000000 in
set_option maxRecDepth 100000 in
theorem wX14_init {S' : so_St}  (a0 : Nat) (a1 : Int32)  (S : so_St) (k_a0 : a0 % 64 ∈ [6]) (hf : fX14_init a0 a1 S = some S') : jx_Sp 2 yX14_init (ws_ yX14_init cX14_init 2 (Option.none : Option Jvm.ClassFile.FieldType)) [.ref a0, .int a1] S (.inl none) S' := by
  refine jx_of (plainFor_of_name (by decide)) (so_le rfl) ?_
  show jg_ (S, S', .inl none) kX14_init 0 [(0, .ref a0), (1, .int a1)] [] S
  unfold fX14_init at hf
  refine jr_aload_n dX14_init_0 rfl rfl jv_rr ?_
  refine jr_call (st := []) lk_X14_1 (wX3_init a0 S (so_ms k_a0 rfl) rfl) (jk_r1 (so_n63 k_a0 rfl)) rfl rfl (so_le rfl) (so_le rfl) dX14_init_1 ?_
  refine jr_aload_n dX14_init_4 rfl rfl jv_rr ?_
  refine jr_iload_n dX14_init_5 rfl rfl ?_
  refine jr_putI fp_X14_7_6 k_a0 (so_n26 rfl) (fun _ => rfl) rfl rfl dX14_init_6 ?_
  refine so_let_e hf (fun S1 hf => ?_)
  obtain rfl := so_e1 hf
  exact jr_vret rfl dX14_init_9

/- X15_init -/
abbrev kX15_init : jx_K := (cX15_init, 3, RX15, 3, (Option.none : Option Jvm.ClassFile.FieldType), "<init>", [])
def fX15_init (a0 : Nat) (a1 : Nat) (a2 : Nat) (S : so_St) : Option so_St :=
  (fX4_init a0 a1 a2 S).bind fun S3 =>
  some S3
set_option maxHeartbeats 4000000 in
set_option maxRecDepth 100000 in
theorem wX15_init {S' : so_St}  (a0 : Nat) (a1 : Nat) (a2 : Nat)  (S : so_St) (k_a0 : a0 % 64 ∈ [7]) (k_a1 : a1 % 64 ∈ [6, 7, 8, 9, 10, 11, 12, 20, 21]) (k_a2 : a2 % 64 ∈ [6, 7, 8, 9, 10, 11, 12, 20, 21]) (hf : fX15_init a0 a1 a2 S = some S') : jx_Sp 3 yX15_init (ws_ yX15_init cX15_init 3 (Option.none : Option Jvm.ClassFile.FieldType)) [.ref a0, .ref a1, .ref a2] S (.inl none) S' := by
  refine jx_of (plainFor_of_name (by decide)) (so_le rfl) ?_
  show jg_ (S, S', .inl none) kX15_init 0 [(0, .ref a0), (1, .ref a1), (2, .ref a2)] [] S
  unfold fX15_init at hf
  refine jr_aload_n dX15_init_0 rfl rfl jv_rr ?_
  refine jr_aload_n dX15_init_1 rfl rfl jv_rr ?_
  refine jr_aload_n dX15_init_2 rfl rfl jv_rr ?_
  obtain ⟨S3, h1, hf⟩ := so_b hf
  refine jr_call (st := []) lk_X15_1 (wX4_init a0 a1 a2 S (so_ms k_a0 rfl) k_a1 k_a2 h1) (jk_r1 (so_n63 k_a0 rfl)) rfl rfl (so_le rfl) (so_le rfl) dX15_init_3 ?_
  obtain rfl := so_e1 hf
  exact jr_vret rfl dX15_init_6

/- X16_init -/
abbrev kX16_init : jx_K := (cX16_init, 3, RX16, 3, (Option.none : Option Jvm.ClassFile.FieldType), "<init>", [])
def fX16_init (a0 : Nat) (a1 : Nat) (a2 : Nat) (S : so_St) : Option so_St :=
  (fX4_init a0 a1 a2 S).bind fun S3 =>
  some S3
set_option maxHeartbeats 4000000 in
set_option maxRecDepth 100000 in
theorem wX16_init {S' : so_St}  (a0 : Nat) (a1 : Nat) (a2 : Nat)  (S : so_St) (k_a0 : a0 % 64 ∈ [8]) (k_a1 : a1 % 64 ∈ [6, 7, 8, 9, 10, 11, 12, 20, 21]) (k_a2 : a2 % 64 ∈ [6, 7, 8, 9, 10, 11, 12, 20, 21]) (hf : fX16_init a0 a1 a2 S = some S') : jx_Sp 3 yX16_init (ws_ yX16_init cX16_init 3 (Option.none : Option Jvm.ClassFile.FieldType)) [.ref a0, .ref a1, .ref a2] S (.inl none) S' := by
  refine jx_of (plainFor_of_name (by decide)) (so_le rfl) ?_
  show jg_ (S, S', .inl none) kX16_init 0 [(0, .ref a0), (1, .ref a1), (2, .ref a2)] [] S
  unfold fX16_init at hf
  refine jr_aload_n dX16_init_0 rfl rfl jv_rr ?_
  refine jr_aload_n dX16_init_1 rfl rfl jv_rr ?_
  refine jr_aload_n dX16_init_2 rfl rfl jv_rr ?_
  obtain ⟨S3, h1, hf⟩ := so_b hf
  refine jr_call (st := []) lk_X16_1 (wX4_init a0 a1 a2 S (so_ms k_a0 rfl) k_a1 k_a2 h1) (jk_r1 (so_n63 k_a0 rfl)) rfl rfl (so_le rfl) (so_le rfl) dX16_init_3 ?_
  obtain rfl := so_e1 hf
  exact jr_vret rfl dX16_init_6

/- X13_two -/
abbrev kX13_two (d0 : Nat) : jx_K := (cX13_two, 4, RX13, d0 + 6, (Option.some (Jvm.ClassFile.FieldType.object "TunedHouses$Term")), "two", [])
def fX13_two (rec : Nat → so_St → Option ((Nat ⊕ Nat) × so_St)) (a0 : Nat) (a1 : Nat) (S : so_St) : Option ((Nat ⊕ Nat) × so_St) :=
  so_gd (so_big a1) fun _ =>
  (fJ9_length a1 S).bind fun r3 =>
  so_b3 (fX9_opens a0 r3 S) (fun r4 S5 =>
  so_b3 (fX9_need a0 (91 : Int32) S5) (fun r10 S11 =>
  so_b3 (rec a0 S11) (fun r16 S17 =>
  so_gd (decide (r16 % 64 ∈ [6, 7, 8, 9, 10, 11, 12, 20, 21])) fun _ =>
  so_b3 (fX9_need a0 (44 : Int32) S17) (fun r22 S23 =>
  so_b3 (rec a0 S23) (fun r28 S29 =>
  so_gd (decide (r28 % 64 ∈ [6, 7, 8, 9, 10, 11, 12, 20, 21])) fun _ =>
  so_b3 (fX9_need a0 (93 : Int32) S29) (fun r34 S35 =>
  so_let (so_sI S35 a0 4 ((so_I S35 a0 4) - (1 : Int32))) fun S40 =>
  (fJ9_equals a1 1818 S40).bind fun r42 =>
  if r42 = (0 : Int32) then
  (so_let (so_new S40 8 0 2) fun S44 =>
  (fX16_init (so_at S40 8) r16 r28 S44).bind fun S47 =>
  some (.inl (so_at S40 8), S47))
  else
  (so_let (so_new S40 7 0 2) fun S48 =>
  (fX15_init (so_at S40 7) r16 r28 S48).bind fun S51 =>
  some (.inl (so_at S40 7), S51)))
  (fun x36 S37 =>
  so_gd (decide (x36 % 64 ∈ [3])) fun _ =>
  some (.inr x36, S37)))
  (fun x30 S31 =>
  so_gd (decide (x30 % 64 ∈ [3])) fun _ =>
  some (.inr x30, S31)))
  (fun x24 S25 =>
  so_gd (decide (x24 % 64 ∈ [3])) fun _ =>
  some (.inr x24, S25)))
  (fun x18 S19 =>
  so_gd (decide (x18 % 64 ∈ [3])) fun _ =>
  some (.inr x18, S19)))
  (fun x12 S13 =>
  so_gd (decide (x12 % 64 ∈ [3])) fun _ =>
  some (.inr x12, S13)))
  (fun x6 S7 =>
  so_gd (decide (x6 % 64 ∈ [3])) fun _ =>
  some (.inr x6, S7))
set_option maxHeartbeats 4000000 in
set_option maxRecDepth 100000 in
theorem wX13_two {d0 : Nat} {res : Nat ⊕ Nat} {S' : so_St} {rec : Nat → so_St → Option ((Nat ⊕ Nat) × so_St)} (hrec : ∀ (a0 : Nat) (S : so_St), a0 % 64 ∈ [5] → ∀ {res : Nat ⊕ Nat} {S' : so_St}, rec a0 S = some (res, S') → jx_Sp d0 yX13_sum (ws_ yX13_sum cX13_sum 4 (Option.some (Jvm.ClassFile.FieldType.object "TunedHouses$Term"))) [.ref a0] S (so_or res) S') (a0 : Nat) (a1 : Nat)  (S : so_St) (k_a0 : a0 % 64 ∈ [5]) (k_a1 : a1 % 64 ∈ [26]) (hf : fX13_two rec a0 a1 S = some (res, S')) : jx_Sp (d0 + 6) yX13_two (ws_ yX13_two cX13_two 4 (Option.some (Jvm.ClassFile.FieldType.object "TunedHouses$Term"))) [.ref a0, .ref a1] S (so_or res) S' := by
  refine jx_of (plainFor_of_name (by decide)) (so_le rfl) ?_
  show jg_ (S, S', so_or res) (kX13_two d0) 0 [(0, .ref a0), (1, .ref a1)] [] S
  unfold fX13_two at hf
  refine jr_aload_n dX13_two_0 rfl rfl jv_rr ?_
  refine jr_aload_n dX13_two_1 rfl rfl jv_rr ?_
  obtain ⟨g1, hf⟩ := so_gdE hf
  obtain ⟨r3, h2, hf⟩ := so_b hf
  refine jr_call (st := [.ref a0]) (lk_X13_111_26 26 (so_i1 rfl)) (wJ9_length a1 S k_a1 h2) (jk_r2 26 (so_m1 k_a1) (so_le rfl) rfl rfl (fun _ => (so_bigE g1))) rfl rfl (so_le rfl) (show 1 + 1 ≤ d0 + 6 by omega) dX13_two_2 ?_
  rcases so_b3E hf with ⟨r4, S5, h8, hf⟩ | ⟨x6, S7, h8, hf⟩
  · refine jr_callM (st := []) lk_X13_53_5 (wX9_opens a0 r3 S (so_ms k_a0 rfl) h8) k_a0 rfl rfl rfl (so_le rfl) (show 4 + 1 ≤ d0 + 6 by omega) dX13_two_5 ?_
    refine jr_aload_n dX13_two_8 rfl rfl jv_rr ?_
    refine jr_bipush dX13_two_9 bp_91 ?_
    rcases so_b3E hf with ⟨r10, S11, h14, hf⟩ | ⟨x12, S13, h14, hf⟩
    · refine jr_callM (st := []) lk_X13_57_5 (wX9_need a0 (91 : Int32) S5 (so_ms k_a0 rfl) h14) k_a0 rfl rfl rfl (so_le rfl) (show 5 + 1 ≤ d0 + 6 by omega) dX13_two_11 ?_
      refine jr_aload_n dX13_two_14 rfl rfl jv_rr ?_
      rcases so_b3E hf with ⟨r16, S17, h20, hf⟩ | ⟨x18, S19, h20, hf⟩
      · obtain ⟨g_r16, hf⟩ := so_gdE hf
        refine jr_callM (st := []) lk_X13_9_5 (hrec a0 S11 k_a0 h20) k_a0 rfl rfl rfl (so_le rfl) (show d0 + 0 + 1 ≤ d0 + 6 by omega) dX13_two_15 ?_
        refine jr_astore_n (lv' := [(0, .ref a0), (1, .ref a1), (2, .ref r16)]) dX13_two_18 rfl (so_le rfl) jv_rr rfl ?_
        refine jr_aload_n dX13_two_19 rfl rfl jv_rr ?_
        refine jr_bipush dX13_two_20 bp_44 ?_
        rcases so_b3E hf with ⟨r22, S23, h26, hf⟩ | ⟨x24, S25, h26, hf⟩
        · refine jr_callM (st := []) lk_X13_57_5 (wX9_need a0 (44 : Int32) S17 (so_ms k_a0 rfl) h26) k_a0 rfl rfl rfl (so_le rfl) (show 5 + 1 ≤ d0 + 6 by omega) dX13_two_22 ?_
          refine jr_aload_n dX13_two_25 rfl rfl jv_rr ?_
          rcases so_b3E hf with ⟨r28, S29, h32, hf⟩ | ⟨x30, S31, h32, hf⟩
          · obtain ⟨g_r28, hf⟩ := so_gdE hf
            refine jr_callM (st := []) lk_X13_9_5 (hrec a0 S23 k_a0 h32) k_a0 rfl rfl rfl (so_le rfl) (show d0 + 0 + 1 ≤ d0 + 6 by omega) dX13_two_26 ?_
            refine jr_astore_n (lv' := [(0, .ref a0), (1, .ref a1), (2, .ref r16), (3, .ref r28)]) dX13_two_29 rfl (so_le rfl) jv_rr rfl ?_
            refine jr_aload_n dX13_two_30 rfl rfl jv_rr ?_
            refine jr_bipush dX13_two_31 bp_93 ?_
            rcases so_b3E hf with ⟨r34, S35, h38, hf⟩ | ⟨x36, S37, h38, hf⟩
            · refine jr_callM (st := []) lk_X13_57_5 (wX9_need a0 (93 : Int32) S29 (so_ms k_a0 rfl) h38) k_a0 rfl rfl rfl (so_le rfl) (show 5 + 1 ≤ d0 + 6 by omega) dX13_two_33 ?_
              refine jr_aload_n dX13_two_36 rfl rfl jv_rr ?_
              refine jr_dup dX13_two_37 rfl ?_
              refine jr_getI fl_X13_60_5 k_a0 (so_n26 rfl) dX13_two_38 ?_
              refine jr_iconst dX13_two_41 ic_1 ?_
              refine jr_isub dX13_two_42 ?_
              refine jr_putI fp_X13_60_5 k_a0 (so_n26 rfl) (fun h => by cases h) rfl rfl dX13_two_43 ?_
              refine so_let_e hf (fun S40 hf => ?_)
              refine jr_aload_n dX13_two_46 rfl rfl jv_rr ?_
              refine jr_ldcS (i := 13) (tx := "least") (show (RX13, 99, "least", 13) ∈ jw_lits from by decide +kernel) dX13_two_47 ?_
              obtain ⟨r42, h41, hf⟩ := so_b hf
              refine jr_call (st := []) (lk_X13_82_26 26 (so_i1 rfl)) (wJ9_equals a1 1818 S40 k_a1 (so_i1 rfl) (so_bigE g1) h41) (jk_r2 26 (so_m1 k_a1) (so_le rfl) rfl rfl (fun _ => (so_bigE g1))) rfl rfl (so_le rfl) (show 1 + 1 ≤ d0 + 6 by omega) dX13_two_49 ?_
              refine jr_if_eq (tgt := 67) dX13_two_52 rfl (fun c43 => ?_) (fun c43 => ?_)
              · have hf := so_t c43 hf
                refine jr_new nw_X13_120 dX13_two_67 ?_
                refine so_let_e hf (fun S44 hf => ?_)
                refine jr_dup dX13_two_70 rfl ?_
                refine jr_aload_n dX13_two_71 rfl rfl jv_rr ?_
                refine jr_aload_n dX13_two_72 rfl rfl jv_rr ?_
                obtain ⟨S47, h45, hf⟩ := so_b hf
                refine jr_call (st := [.ref (so_at S40 8)]) lk_X13_122 (wX16_init (so_at S40 8) r16 r28 S44 (so_atk rfl) (of_decide_eq_true g_r16) (of_decide_eq_true g_r28) h45) (jk_r1 (so_n63 (so_atk rfl) rfl)) rfl rfl (so_le rfl) (show 3 + 1 ≤ d0 + 6 by omega) dX13_two_73 ?_
                obtain ⟨rfl, rfl⟩ := so_e2 hf
                exact jr_aret rfl (Or.inl ⟨_, rfl⟩) jv_rr dX13_two_76
              · have hf := so_f c43 hf
                refine jr_new nw_X13_117 dX13_two_55 ?_
                refine so_let_e hf (fun S48 hf => ?_)
                refine jr_dup dX13_two_58 rfl ?_
                refine jr_aload_n dX13_two_59 rfl rfl jv_rr ?_
                refine jr_aload_n dX13_two_60 rfl rfl jv_rr ?_
                obtain ⟨S51, h49, hf⟩ := so_b hf
                refine jr_call (st := [.ref (so_at S40 7)]) lk_X13_119 (wX15_init (so_at S40 7) r16 r28 S48 (so_atk rfl) (of_decide_eq_true g_r16) (of_decide_eq_true g_r28) h49) (jk_r1 (so_n63 (so_atk rfl) rfl)) rfl rfl (so_le rfl) (show 3 + 1 ≤ d0 + 6 by omega) dX13_two_61 ?_
                refine jr_goto (tgt := 76) dX13_two_64 rfl ?_
                obtain ⟨rfl, rfl⟩ := so_e2 hf
                exact jr_aret rfl (Or.inl ⟨_, rfl⟩) jv_rr dX13_two_76
            · refine jr_callMX (st := []) lk_X13_57_5 (wX9_need a0 (93 : Int32) S29 (so_ms k_a0 rfl) h38) k_a0 rfl rfl rfl (so_le rfl) (show 5 + 1 ≤ d0 + 6 by omega) dX13_two_33 ?_
              obtain ⟨g39, hf⟩ := so_gdE hf
              obtain ⟨rfl, rfl⟩ := so_e2 hf
              exact jr_out (so_l29 (of_decide_eq_true g39) rfl).1 (so_l29 (of_decide_eq_true g39) rfl).2 rfl
          · refine jr_callMX (st := []) lk_X13_9_5 (hrec a0 S23 k_a0 h32) k_a0 rfl rfl rfl (so_le rfl) (show d0 + 0 + 1 ≤ d0 + 6 by omega) dX13_two_26 ?_
            obtain ⟨g33, hf⟩ := so_gdE hf
            obtain ⟨rfl, rfl⟩ := so_e2 hf
            exact jr_out (so_l29 (of_decide_eq_true g33) rfl).1 (so_l29 (of_decide_eq_true g33) rfl).2 rfl
        · refine jr_callMX (st := []) lk_X13_57_5 (wX9_need a0 (44 : Int32) S17 (so_ms k_a0 rfl) h26) k_a0 rfl rfl rfl (so_le rfl) (show 5 + 1 ≤ d0 + 6 by omega) dX13_two_22 ?_
          obtain ⟨g27, hf⟩ := so_gdE hf
          obtain ⟨rfl, rfl⟩ := so_e2 hf
          exact jr_out (so_l29 (of_decide_eq_true g27) rfl).1 (so_l29 (of_decide_eq_true g27) rfl).2 rfl
      · refine jr_callMX (st := []) lk_X13_9_5 (hrec a0 S11 k_a0 h20) k_a0 rfl rfl rfl (so_le rfl) (show d0 + 0 + 1 ≤ d0 + 6 by omega) dX13_two_15 ?_
        obtain ⟨g21, hf⟩ := so_gdE hf
        obtain ⟨rfl, rfl⟩ := so_e2 hf
        exact jr_out (so_l29 (of_decide_eq_true g21) rfl).1 (so_l29 (of_decide_eq_true g21) rfl).2 rfl
    · refine jr_callMX (st := []) lk_X13_57_5 (wX9_need a0 (91 : Int32) S5 (so_ms k_a0 rfl) h14) k_a0 rfl rfl rfl (so_le rfl) (show 5 + 1 ≤ d0 + 6 by omega) dX13_two_11 ?_
      obtain ⟨g15, hf⟩ := so_gdE hf
      obtain ⟨rfl, rfl⟩ := so_e2 hf
      exact jr_out (so_l29 (of_decide_eq_true g15) rfl).1 (so_l29 (of_decide_eq_true g15) rfl).2 rfl
  · refine jr_callMX (st := []) lk_X13_53_5 (wX9_opens a0 r3 S (so_ms k_a0 rfl) h8) k_a0 rfl rfl rfl (so_le rfl) (show 4 + 1 ≤ d0 + 6 by omega) dX13_two_5 ?_
    obtain ⟨g9, hf⟩ := so_gdE hf
    obtain ⟨rfl, rfl⟩ := so_e2 hf
    exact jr_out (so_l29 (of_decide_eq_true g9) rfl).1 (so_l29 (of_decide_eq_true g9) rfl).2 rfl
