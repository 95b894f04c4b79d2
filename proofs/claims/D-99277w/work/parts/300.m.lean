/-! printed: functions and walks -/
set_option maxRecDepth 100000
set_option linter.unusedVariables false
/- X1_need -/
abbrev kX1_need : jx_K := (cX1_need, 2, RX1, 6, (Option.none : Option Jvm.ClassFile.FieldType), "need", [])
def fX1_need (a0 : Nat) (a1 : Int32) (S : so_St) : Option ((Unit ⊕ Nat) × so_St) :=
  if a1 = (0 : Int32) then
  ((so_rk (so_R S a0 4) [50]).bind fun p2 =>
  so_gd (so_in (1 : Int32) (so_l S p2)) fun _ =>
  so_gd (so_in (1 : Int32) (so_l S p2)) fun _ =>
  so_let (so_sI S p2 (1 : Int32).toNatClampNeg ((so_I S p2 (1 : Int32).toNatClampNeg) + (1 : Int32))) fun S6 =>
  so_let (so_new S6 27 0 6) fun S7 =>
  some (.inr (so_at S6 27), S7))
  else
  (some (.inl (), S))
set_option maxHeartbeats 4000000 in
set_option maxRecDepth 100000 in
theorem wX1_need {res : Unit ⊕ Nat} {S' : so_St}  (a0 : Nat) (a1 : Int32)  (S : so_St) (k_a0 : a0 % 64 ∈ [0]) (hf : fX1_need a0 a1 S = some (res, S')) : jx_Sp 6 yX1_need (ws_ yX1_need cX1_need 2 (Option.none : Option Jvm.ClassFile.FieldType)) [.ref a0, .int a1] S (so_ov res) S' := by
  refine jx_of (plainFor_of_name (by decide)) (so_le rfl) ?_
  show jg_ (S, S', so_ov res) kX1_need 0 [(0, .ref a0), (1, .int a1)] [] S
  unfold fX1_need at hf
  refine jr_iload_n dX1_need_0 rfl rfl ?_
  refine jr_if_eq (tgt := 5) dX1_need_1 rfl (fun c1 => ?_) (fun c1 => ?_)
  · have hf := so_t c1 hf
    refine jr_aload_n dX1_need_5 rfl rfl jv_rr ?_
    refine jr_getR fl_X1_41_0 k_a0 (so_n26 rfl) dX1_need_6 ?_
    obtain ⟨p2, h3, hf⟩ := so_b hf
    obtain ⟨h3, k_p2⟩ := so_rk_s h3
    refine jr_rf h3 ?_
    refine jr_iconst dX1_need_9 ic_1 ?_
    refine jr_dup2 dX1_need_10 rfl rfl ?_
    obtain ⟨g4, hf⟩ := so_gdE hf
    refine jr_iaload (so_m1 k_p2) (so_inE g4) dX1_need_11 ?_
    refine jr_iconst dX1_need_12 ic_1 ?_
    refine jr_iadd dX1_need_13 ?_
    obtain ⟨g5, hf⟩ := so_gdE hf
    refine jr_iastore (so_m1 k_p2) (so_inE g5) dX1_need_14 ?_
    refine so_let_e hf (fun S6 hf => ?_)
    refine jr_make0 (ci := 27) (cls := "java/lang/IllegalArgumentException") (names := ["java/lang/RuntimeException", "java/lang/Exception"]) rfl (List.all_eq_true.mp rfl) q873 q107 jm_iae jm_iaeg (so_le rfl) rfl rfl (so_le rfl) (so_le rfl) (so_le rfl) dX1_need_15 dX1_need_18 dX1_need_19 ?_
    refine so_let_e hf (fun S7 hf => ?_)
    obtain ⟨rfl, rfl⟩ := so_e2 hf
    exact jr_athrow (so_n63 (so_atk rfl) rfl) dX1_need_22 (jr_out (so_l29 (so_atk rfl) rfl).1 (so_l29 (so_atk rfl) rfl).2 rfl)
  · have hf := so_f c1 hf
    obtain ⟨rfl, rfl⟩ := so_e2 hf
    exact jr_vret rfl dX1_need_4

/- X9_init -/
abbrev kX9_init : jx_K := (cX9_init, 3, RX9, 1, (Option.none : Option Jvm.ClassFile.FieldType), "<init>", [])
def fX9_init (a0 : Nat) (a1 : Nat) (a2 : Int32) (S : so_St) : Option so_St :=
  so_let (so_sR S a0 0 (some a1)) fun S1 =>
  so_let (so_sI S1 a0 1 a2) fun S2 =>
  some S2
set_option maxHeartbeats 4000000 in
set_option maxRecDepth 100000 in
theorem wX9_init {S' : so_St}  (a0 : Nat) (a1 : Nat) (a2 : Int32)  (S : so_St) (k_a0 : a0 % 64 ∈ [2, 5, 13, 19]) (k_a1 : a1 % 64 ∈ [51]) (hf : fX9_init a0 a1 a2 S = some S') : jx_Sp 1 yX9_init (ws_ yX9_init cX9_init 3 (Option.none : Option Jvm.ClassFile.FieldType)) [.ref a0, .ref a1, .int a2] S (.inl none) S' := by
  refine jx_of (plainFor_of_name (by decide)) (so_le rfl) ?_
  show jg_ (S, S', .inl none) kX9_init 0 [(0, .ref a0), (1, .ref a1), (2, .int a2)] [] S
  unfold fX9_init at hf
  refine jr_aload_n dX9_init_0 rfl rfl jv_rr ?_
  refine jr_objInit (so_n63 k_a0 rfl) q892 q155 q156 (so_le rfl) (so_le rfl) dX9_init_1 ?_
  refine jr_aload_n dX9_init_4 rfl rfl jv_rr ?_
  refine jr_aload_n dX9_init_5 rfl rfl jv_rr ?_
  refine jr_putR (r := (some a1)) rfl fp_X9_9_2_5_13_19 k_a0 (so_n26 rfl) (fun _ => rfl) rfl dX9_init_6 ?_
  refine so_let_e hf (fun S1 hf => ?_)
  refine jr_aload_n dX9_init_9 rfl rfl jv_rr ?_
  refine jr_iload_n dX9_init_10 rfl rfl ?_
  refine jr_putI fp_X9_15_2_5_13_19 k_a0 (so_n26 rfl) (fun _ => rfl) rfl rfl dX9_init_11 ?_
  refine so_let_e hf (fun S2 hf => ?_)
  obtain rfl := so_e1 hf
  exact jr_vret rfl dX9_init_14

/- J0_init -/
abbrev kJ0_init : jx_K := (cJ0_init, 1, RJ0, 1, (Option.none : Option Jvm.ClassFile.FieldType), "<init>", [])
def fJ0_init (a0 : Nat) : Unit :=
  ()
set_option maxHeartbeats 4000000 in
set_option maxRecDepth 100000 in
theorem wJ0_init  (a0 : Nat)  (S : so_St) (k_a0 : a0 % 64 ∈ [24]) (hf : fJ0_init a0 = ()) : jx_Sp 1 yJ0_init (ws_ yJ0_init cJ0_init 1 (Option.none : Option Jvm.ClassFile.FieldType)) [.ref a0] S (.inl none) S := by
  refine jx_of (plainFor_of_name (by decide)) (so_le rfl) ?_
  show jg_ (S, S, .inl none) kJ0_init 0 [(0, .ref a0)] [] S
  unfold fJ0_init at hf
  refine jr_aload_n dJ0_init_0 rfl rfl jv_rr ?_
  refine jr_objInit (so_n63 k_a0 rfl) q174 q155 q156 (so_le rfl) (so_le rfl) dJ0_init_1 ?_
  exact jr_vret rfl dJ0_init_4

/- J1_init -/
abbrev kJ1_init : jx_K := (cJ1_init, 1, RJ1, 2, (Option.none : Option Jvm.ClassFile.FieldType), "<init>", [])
def fJ1_init (a0 : Nat) (S : so_St) : Option so_St :=
  so_let (so_sI S a0 0 (0 : Int32)) fun S1 =>
  some S1
set_option maxHeartbeats 4000000 in
set_option maxRecDepth 100000 in
theorem wJ1_init {S' : so_St}  (a0 : Nat)  (S : so_St) (k_a0 : a0 % 64 ∈ [24]) (hf : fJ1_init a0 S = some S') : jx_Sp 2 yJ1_init (ws_ yJ1_init cJ1_init 1 (Option.none : Option Jvm.ClassFile.FieldType)) [.ref a0] S (.inl none) S' := by
  refine jx_of (plainFor_of_name (by decide)) (so_le rfl) ?_
  show jg_ (S, S', .inl none) kJ1_init 0 [(0, .ref a0)] [] S
  unfold fJ1_init at hf
  refine jr_aload_n dJ1_init_0 rfl rfl jv_rr ?_
  refine jr_call (st := []) lk_J1_1 (wJ0_init a0 S k_a0 rfl) (jk_r1 (so_n63 k_a0 rfl)) rfl rfl (so_le rfl) (so_le rfl) dJ1_init_1 ?_
  refine jr_aload_n dJ1_init_4 rfl rfl jv_rr ?_
  refine jr_iconst dJ1_init_5 ic_0 ?_
  refine jr_putI fp_J1_7_24 k_a0 (so_n26 rfl) (fun h => by cases h) rfl rfl dJ1_init_6 ?_
  refine so_let_e hf (fun S1 hf => ?_)
  obtain rfl := so_e1 hf
  exact jr_vret rfl dJ1_init_9

/- J2_init -/
abbrev kJ2_init : jx_K := (cJ2_init, 2, RJ2, 3, (Option.none : Option Jvm.ClassFile.FieldType), "<init>", [])
def fJ2_init (a0 : Nat) (a1 : Int32) (S : so_St) : Option so_St :=
  (fJ1_init a0 S).bind fun S3 =>
  if a1 ≤ (0 : Int32) then
  (if a1 = (0 : Int32) then
  (none)
  else
  (none))
  else
  (so_gd (so_len a1) fun _ =>
  so_let (so_new S3 55 a1.toNatClampNeg a1.toNatClampNeg) fun S7 =>
  so_let (so_sR S7 a0 1 (some (so_at S3 55))) fun S8 =>
  some S8)
set_option maxHeartbeats 4000000 in
set_option maxRecDepth 100000 in
theorem wJ2_init {S' : so_St}  (a0 : Nat) (a1 : Int32)  (S : so_St) (k_a0 : a0 % 64 ∈ [24]) (hf : fJ2_init a0 a1 S = some S') : jx_Sp 3 yJ2_init (ws_ yJ2_init cJ2_init 2 (Option.none : Option Jvm.ClassFile.FieldType)) [.ref a0, .int a1] S (.inl none) S' := by
  refine jx_of (plainFor_of_name (by decide)) (so_le rfl) ?_
  show jg_ (S, S', .inl none) kJ2_init 0 [(0, .ref a0), (1, .int a1)] [] S
  unfold fJ2_init at hf
  refine jr_aload_n dJ2_init_0 rfl rfl jv_rr ?_
  obtain ⟨S3, h1, hf⟩ := so_b hf
  refine jr_call (st := []) lk_J2_1 (wJ1_init a0 S k_a0 h1) (jk_r1 (so_n63 k_a0 rfl)) rfl rfl (so_le rfl) (so_le rfl) dJ2_init_1 ?_
  refine jr_iload_n dJ2_init_4 rfl rfl ?_
  refine jr_if_le (tgt := 19) dJ2_init_5 rfl (fun c4 => ?_) (fun c4 => ?_)
  · have hf := so_t c4 hf
    refine jr_iload_n dJ2_init_19 rfl rfl ?_
    refine jr_if_ne (tgt := 33) dJ2_init_20 rfl (fun c5 => ?_) (fun c5 => ?_)
    · have hf := so_f c5 hf
      exact so_no hf
    · have hf := so_t c5 hf
      refine jr_aload_n dJ2_init_23 rfl rfl jv_rr ?_
      exact so_no hf
  · have hf := so_f c4 hf
    refine jr_aload_n dJ2_init_8 rfl rfl jv_rr ?_
    refine jr_iload_n dJ2_init_9 rfl rfl ?_
    obtain ⟨g6, hf⟩ := so_gdE hf
    refine jr_newO q175 (so_lenE g6).1 (so_lenE g6).2 dJ2_init_10 ?_
    refine so_let_e hf (fun S7 hf => ?_)
    refine jr_putR (r := (some (so_at S3 55))) rfl fp_J2_9_24 k_a0 (so_n26 rfl) (fun h => by cases h) rfl dJ2_init_13 ?_
    refine so_let_e hf (fun S8 hf => ?_)
    refine jr_goto (tgt := 60) dJ2_init_16 rfl ?_
    obtain rfl := so_e1 hf
    exact jr_vret rfl dJ2_init_60

/- X2_init -/
abbrev kX2_init : jx_K := (cX2_init, 1, RX2, 4, (Option.none : Option Jvm.ClassFile.FieldType), "<init>", [])
def fX2_init (a0 : Nat) (S : so_St) : Option so_St :=
  so_let (so_new S 50 8 8) fun S1 =>
  so_let (so_sR S1 a0 0 (some (so_at S 50))) fun S2 =>
  so_let (so_new S2 50 8 8) fun S3 =>
  so_let (so_sR S3 a0 1 (some (so_at S2 50))) fun S4 =>
  so_let (so_new S4 50 8 8) fun S5 =>
  so_let (so_sR S5 a0 2 (some (so_at S4 50))) fun S6 =>
  so_let (so_new S6 50 12 12) fun S7 =>
  so_let (so_sR S7 a0 3 (some (so_at S6 50))) fun S8 =>
  so_let (so_new S8 50 12 12) fun S9 =>
  so_let (so_sR S9 a0 4 (some (so_at S8 50))) fun S10 =>
  so_let (so_new S10 24 0 3) fun S11 =>
  (fJ2_init (so_at S10 24) (2 : Int32) S11).bind fun S14 =>
  so_let (so_sR S14 a0 5 (some (so_at S10 24))) fun S15 =>
  so_let (so_sI S15 a0 8 (12 : Int32)) fun S16 =>
  some S16
set_option maxHeartbeats 4000000 in
set_option maxRecDepth 100000 in
theorem wX2_init {S' : so_St}  (a0 : Nat)  (S : so_St) (k_a0 : a0 % 64 ∈ [1]) (hf : fX2_init a0 S = some S') : jx_Sp 4 yX2_init (ws_ yX2_init cX2_init 1 (Option.none : Option Jvm.ClassFile.FieldType)) [.ref a0] S (.inl none) S' := by
  refine jx_of (plainFor_of_name (by decide)) (so_le rfl) ?_
  show jg_ (S, S', .inl none) kX2_init 0 [(0, .ref a0)] [] S
  unfold fX2_init at hf
  refine jr_aload_n dX2_init_0 rfl rfl jv_rr ?_
  refine jr_objInit (so_n63 k_a0 rfl) q162 q155 q156 (so_le rfl) (so_le rfl) dX2_init_1 ?_
  refine jr_aload_n dX2_init_4 rfl rfl jv_rr ?_
  refine jr_bipush dX2_init_5 bp_8 ?_
  refine jr_newi q251 (by decide) (by decide) dX2_init_7 ?_
  refine so_let_e hf (fun S1 hf => ?_)
  refine jr_putR (r := (some (so_at S 50))) rfl fp_X2_9_1 k_a0 (so_n26 rfl) (fun _ => rfl) rfl dX2_init_9 ?_
  refine so_let_e hf (fun S2 hf => ?_)
  refine jr_aload_n dX2_init_12 rfl rfl jv_rr ?_
  refine jr_bipush dX2_init_13 bp_8 ?_
  refine jr_newi q251 (by decide) (by decide) dX2_init_15 ?_
  refine so_let_e hf (fun S3 hf => ?_)
  refine jr_putR (r := (some (so_at S2 50))) rfl fp_X2_15_1 k_a0 (so_n26 rfl) (fun _ => rfl) rfl dX2_init_17 ?_
  refine so_let_e hf (fun S4 hf => ?_)
  refine jr_aload_n dX2_init_20 rfl rfl jv_rr ?_
  refine jr_bipush dX2_init_21 bp_8 ?_
  refine jr_newi q251 (by decide) (by decide) dX2_init_23 ?_
  refine so_let_e hf (fun S5 hf => ?_)
  refine jr_putR (r := (some (so_at S4 50))) rfl fp_X2_18_1 k_a0 (so_n26 rfl) (fun _ => rfl) rfl dX2_init_25 ?_
  refine so_let_e hf (fun S6 hf => ?_)
  refine jr_aload_n dX2_init_28 rfl rfl jv_rr ?_
  refine jr_bipush dX2_init_29 bp_12 ?_
  refine jr_newi q251 (by decide) (by decide) dX2_init_31 ?_
  refine so_let_e hf (fun S7 hf => ?_)
  refine jr_putR (r := (some (so_at S6 50))) rfl fp_X2_21_1 k_a0 (so_n26 rfl) (fun _ => rfl) rfl dX2_init_33 ?_
  refine so_let_e hf (fun S8 hf => ?_)
  refine jr_aload_n dX2_init_36 rfl rfl jv_rr ?_
  refine jr_bipush dX2_init_37 bp_12 ?_
  refine jr_newi q251 (by decide) (by decide) dX2_init_39 ?_
  refine so_let_e hf (fun S9 hf => ?_)
  refine jr_putR (r := (some (so_at S8 50))) rfl fp_X2_24_1 k_a0 (so_n26 rfl) (fun _ => rfl) rfl dX2_init_41 ?_
  refine so_let_e hf (fun S10 hf => ?_)
  refine jr_aload_n dX2_init_44 rfl rfl jv_rr ?_
  refine jr_new nw_X2_27 dX2_init_45 ?_
  refine so_let_e hf (fun S11 hf => ?_)
  refine jr_dup dX2_init_48 rfl ?_
  refine jr_iconst dX2_init_49 ic_2 ?_
  obtain ⟨S14, h12, hf⟩ := so_b hf
  refine jr_call (st := [.ref (so_at S10 24), .ref a0]) lk_X2_29 (wJ2_init (so_at S10 24) (2 : Int32) S11 (so_atk rfl) h12) (jk_r1 (so_n63 (so_atk rfl) rfl)) rfl rfl (so_le rfl) (so_le rfl) dX2_init_50 ?_
  refine jr_putR (r := (some (so_at S10 24))) rfl fp_X2_32_1 k_a0 (so_n26 rfl) (fun _ => rfl) rfl dX2_init_53 ?_
  refine so_let_e hf (fun S15 hf => ?_)
  refine jr_aload_n dX2_init_56 rfl rfl jv_rr ?_
  refine jr_bipush dX2_init_57 bp_12 ?_
  refine jr_putI fp_X2_36_1 k_a0 (so_n26 rfl) (fun h => by cases h) rfl rfl dX2_init_59 ?_
  refine so_let_e hf (fun S16 hf => ?_)
  obtain rfl := so_e1 hf
  exact jr_vret rfl dX2_init_62

/- X10_init -/
abbrev kX10_init : jx_K := (cX10_init, 3, RX10, 5, (Option.none : Option Jvm.ClassFile.FieldType), "<init>", [])
def fX10_init (a0 : Nat) (a1 : Nat) (a2 : Int32) (S : so_St) : Option so_St :=
  (fX9_init a0 a1 a2 S).bind fun S3 =>
  so_let (so_new S3 1 0 10) fun S4 =>
  (fX2_init (so_at S3 1) S4).bind fun S7 =>
  so_let (so_sR S7 a0 5 (some (so_at S3 1))) fun S8 =>
  some S8
set_option maxHeartbeats 4000000 in
set_option maxRecDepth 100000 in
theorem wX10_init {S' : so_St}  (a0 : Nat) (a1 : Nat) (a2 : Int32)  (S : so_St) (k_a0 : a0 % 64 ∈ [2]) (k_a1 : a1 % 64 ∈ [51]) (hf : fX10_init a0 a1 a2 S = some S') : jx_Sp 5 yX10_init (ws_ yX10_init cX10_init 3 (Option.none : Option Jvm.ClassFile.FieldType)) [.ref a0, .ref a1, .int a2] S (.inl none) S' := by
  refine jx_of (plainFor_of_name (by decide)) (so_le rfl) ?_
  show jg_ (S, S', .inl none) kX10_init 0 [(0, .ref a0), (1, .ref a1), (2, .int a2)] [] S
  unfold fX10_init at hf
  refine jr_aload_n dX10_init_0 rfl rfl jv_rr ?_
  refine jr_aload_n dX10_init_1 rfl rfl jv_rr ?_
  refine jr_iload_n dX10_init_2 rfl rfl ?_
  obtain ⟨S3, h1, hf⟩ := so_b hf
  refine jr_call (st := []) lk_X10_3 (wX9_init a0 a1 a2 S (so_ms k_a0 rfl) k_a1 h1) (jk_r1 (so_n63 k_a0 rfl)) rfl rfl (so_le rfl) (so_le rfl) dX10_init_3 ?_
  refine jr_aload_n dX10_init_6 rfl rfl jv_rr ?_
  refine jr_new nw_X10_9 dX10_init_7 ?_
  refine so_let_e hf (fun S4 hf => ?_)
  refine jr_dup dX10_init_10 rfl ?_
  obtain ⟨S7, h5, hf⟩ := so_b hf
  refine jr_call (st := [.ref (so_at S3 1), .ref a0]) lk_X10_11 (wX2_init (so_at S3 1) S4 (so_atk rfl) h5) (jk_r1 (so_n63 (so_atk rfl) rfl)) rfl rfl (so_le rfl) (so_le rfl) dX10_init_11 ?_
  refine jr_putR (r := (some (so_at S3 1))) rfl fp_X10_14_2 k_a0 (so_n26 rfl) (fun _ => rfl) rfl dX10_init_14 ?_
  refine so_let_e hf (fun S8 hf => ?_)
  obtain rfl := so_e1 hf
  exact jr_vret rfl dX10_init_17

/- X9_sign -/
abbrev kX9_sign : jx_K := (cX9_sign, 1, RX9, 0, (Option.some Jvm.ClassFile.FieldType.int), "sign", [])
def LX9_sign_0 (f0 : Nat) (k38 : so_St → Option (Int32 × so_St)) : Nat → so_St → Option (Int32 × so_St)
  | 0, _ => none
  | n + 1, S1 =>
    if (so_I S1 f0 1) ≤ (so_I S1 f0 2) then
    (k38 S1)
    else
    ((so_rk (so_R S1 f0 0) [51]).bind fun p3 =>
    so_gd (so_in (so_I S1 f0 2) (so_l S1 p3)) fun _ =>
    if (so_I S1 p3 (so_I S1 f0 2).toNatClampNeg) = (32 : Int32) then
    (so_let (so_sI S1 f0 2 ((so_I S1 f0 2) + (1 : Int32))) fun S7 =>
    LX9_sign_0 f0 k38 n S7)
    else
    (k38 S1))
set_option maxHeartbeats 4000000 in
set_option maxRecDepth 100000 in
theorem wX9_sign_0 {res : Int32} {S' : so_St} {S0 : so_St}   (f0 : Nat)   (k_f0 : f0 % 64 ∈ [2, 5, 13, 19]) (k38 : so_St → Option (Int32 × so_St)) (h38 : ∀ (S8 : so_St), k38 S8 = some (res, S') → jg_ (S0, S', .inl (some (.int res))) kX9_sign 38 [(0, .ref f0)] [] S8) : ∀ (n : Nat) (S1 : so_St), LX9_sign_0 f0 k38 n S1 = some (res, S') → jg_ (S0, S', .inl (some (.int res))) kX9_sign 0 [(0, .ref f0)] [] S1 := by
  intro n
  induction n with
  | zero =>
    intro S1 hf
    exact so_no hf
  | succ n ih =>
    intro S1 hf
    rw [LX9_sign_0] at hf
    refine jr_aload_n dX9_sign_0 rfl rfl jv_rr ?_
    refine jr_getI fl_X9_19_2_5_13_19 k_f0 (so_n26 rfl) dX9_sign_1 ?_
    refine jr_aload_n dX9_sign_4 rfl rfl jv_rr ?_
    refine jr_getI fl_X9_15_2_5_13_19 k_f0 (so_n26 rfl) dX9_sign_5 ?_
    refine jr_icmp_ge (tgt := 38) dX9_sign_8 rfl (fun c2 => ?_) (fun c2 => ?_)
    · have hf := so_t c2 hf
      exact h38 S1 hf
    · have hf := so_f c2 hf
      refine jr_aload_n dX9_sign_11 rfl rfl jv_rr ?_
      refine jr_getR fl_X9_9_2_5_13_19 k_f0 (so_n26 rfl) dX9_sign_12 ?_
      obtain ⟨p3, h4, hf⟩ := so_b hf
      obtain ⟨h4, k_p3⟩ := so_rk_s h4
      refine jr_rf h4 ?_
      refine jr_aload_n dX9_sign_15 rfl rfl jv_rr ?_
      refine jr_getI fl_X9_19_2_5_13_19 k_f0 (so_n26 rfl) dX9_sign_16 ?_
      obtain ⟨g5, hf⟩ := so_gdE hf
      refine jr_baload (so_m1 k_p3) (so_inE g5) dX9_sign_19 ?_
      refine jr_bipush dX9_sign_20 bp_32 ?_
      refine jr_icmp_ne (tgt := 38) dX9_sign_22 rfl (fun c6 => ?_) (fun c6 => ?_)
      · have hf := so_f c6 hf
        exact h38 S1 hf
      · have hf := so_t c6 hf
        refine jr_aload_n dX9_sign_25 rfl rfl jv_rr ?_
        refine jr_dup dX9_sign_26 rfl ?_
        refine jr_getI fl_X9_19_2_5_13_19 k_f0 (so_n26 rfl) dX9_sign_27 ?_
        refine jr_iconst dX9_sign_30 ic_1 ?_
        refine jr_iadd dX9_sign_31 ?_
        refine jr_putI fp_X9_19_2_5_13_19 k_f0 (so_n26 rfl) (fun h => by cases h) rfl rfl dX9_sign_32 ?_
        refine so_let_e hf (fun S7 hf => ?_)
        refine jr_goto (tgt := 0) dX9_sign_35 rfl ?_
        exact ih S7 hf
def fX9_sign (a0 : Nat) (S : so_St) : Option (Int32 × so_St) :=
  LX9_sign_0 a0 (fun (S9 : so_St) =>
  if (so_I S9 a0 1) ≤ (so_I S9 a0 2) then
  (some ((0 : Int32), S9))
  else
  ((so_rk (so_R S9 a0 0) [51]).bind fun p11 =>
  so_gd (so_in (so_I S9 a0 2) (so_l S9 p11)) fun _ =>
  some (so_I S9 p11 (so_I S9 a0 2).toNatClampNeg, S9))) so_N S
set_option maxHeartbeats 4000000 in
set_option maxRecDepth 100000 in
theorem wX9_sign {res : Int32} {S' : so_St}  (a0 : Nat)  (S : so_St) (k_a0 : a0 % 64 ∈ [2, 5, 13, 19]) (hf : fX9_sign a0 S = some (res, S')) : jx_Sp 0 yX9_sign (ws_ yX9_sign cX9_sign 1 (Option.some Jvm.ClassFile.FieldType.int)) [.ref a0] S (.inl (some (.int res))) S' := by
  refine jx_of (plainFor_of_name (by decide)) (so_le rfl) ?_
  show jg_ (S, S', .inl (some (.int res))) kX9_sign 0 [(0, .ref a0)] [] S
  unfold fX9_sign at hf
  refine wX9_sign_0 a0 k_a0 _ (fun S9 hf => ?_) so_N S hf
  refine jr_aload_n dX9_sign_38 rfl rfl jv_rr ?_
  refine jr_getI fl_X9_19_2_5_13_19 k_a0 (so_n26 rfl) dX9_sign_39 ?_
  refine jr_aload_n dX9_sign_42 rfl rfl jv_rr ?_
  refine jr_getI fl_X9_15_2_5_13_19 k_a0 (so_n26 rfl) dX9_sign_43 ?_
  refine jr_icmp_ge (tgt := 61) dX9_sign_46 rfl (fun c10 => ?_) (fun c10 => ?_)
  · have hf := so_t c10 hf
    refine jr_iconst dX9_sign_61 ic_0 ?_
    obtain ⟨rfl, rfl⟩ := so_e2 hf
    exact jr_iret rfl rfl dX9_sign_62
  · have hf := so_f c10 hf
    refine jr_aload_n dX9_sign_49 rfl rfl jv_rr ?_
    refine jr_getR fl_X9_9_2_5_13_19 k_a0 (so_n26 rfl) dX9_sign_50 ?_
    obtain ⟨p11, h12, hf⟩ := so_b hf
    obtain ⟨h12, k_p11⟩ := so_rk_s h12
    refine jr_rf h12 ?_
    refine jr_aload_n dX9_sign_53 rfl rfl jv_rr ?_
    refine jr_getI fl_X9_19_2_5_13_19 k_a0 (so_n26 rfl) dX9_sign_54 ?_
    obtain ⟨g13, hf⟩ := so_gdE hf
    refine jr_baload (so_m1 k_p11) (so_inE g13) dX9_sign_57 ?_
    refine jr_goto (tgt := 62) dX9_sign_58 rfl ?_
    obtain ⟨rfl, rfl⟩ := so_e2 hf
    exact jr_iret rfl rfl dX9_sign_62

/- J7_init -/
abbrev kJ7_init : jx_K := (cJ7_init, 2, RJ7, 1, (Option.none : Option Jvm.ClassFile.FieldType), "<init>", [])
def fJ7_init (a0 : Nat) (a1 : Int32) (S : so_St) : Option so_St :=
  if (1 : Int32) = (0 : Int32) then
  (none)
  else
  (so_gd (so_len a1) fun _ =>
  so_let (so_new S 51 a1.toNatClampNeg a1.toNatClampNeg) fun S3 =>
  so_let (so_sR S3 a0 0 (some (so_at S 51))) fun S4 =>
  so_let (so_sI S4 a0 1 (0 : Int32)) fun S5 =>
  some S5)
set_option maxHeartbeats 4000000 in
set_option maxRecDepth 100000 in
theorem wJ7_init {S' : so_St}  (a0 : Nat) (a1 : Int32)  (S : so_St) (k_a0 : a0 % 64 ∈ [25]) (hf : fJ7_init a0 a1 S = some S') : jx_Sp 1 yJ7_init (ws_ yJ7_init cJ7_init 2 (Option.none : Option Jvm.ClassFile.FieldType)) [.ref a0, .int a1] S (.inl none) S' := by
  refine jx_of (plainFor_of_name (by decide)) (so_le rfl) ?_
  show jg_ (S, S', .inl none) kJ7_init 0 [(0, .ref a0), (1, .int a1)] [] S
  unfold fJ7_init at hf
  refine jr_aload_n dJ7_init_0 rfl rfl jv_rr ?_
  refine jr_objInit (so_n63 k_a0 rfl) q228 q155 q156 (so_le rfl) (so_le rfl) dJ7_init_1 ?_
  refine jr_gsC q229 dJ7_init_4 ?_
  refine jr_if_eq (tgt := 25) dJ7_init_7 rfl (fun c1 => ?_) (fun c1 => ?_)
  · have hf := so_t c1 hf
    refine jr_aload_n dJ7_init_25 rfl rfl jv_rr ?_
    refine jr_iload_n dJ7_init_26 rfl rfl ?_
    exact so_no hf
  · have hf := so_f c1 hf
    refine jr_aload_n dJ7_init_10 rfl rfl jv_rr ?_
    refine jr_iload_n dJ7_init_11 rfl rfl ?_
    obtain ⟨g2, hf⟩ := so_gdE hf
    refine jr_newb q252 (so_lenE g2).1 (so_lenE g2).2 dJ7_init_12 ?_
    refine so_let_e hf (fun S3 hf => ?_)
    refine jr_putR (r := (some (so_at S 51))) rfl fp_J7_15_25 k_a0 (so_n26 rfl) (fun h => by cases h) rfl dJ7_init_14 ?_
    refine so_let_e hf (fun S4 hf => ?_)
    refine jr_aload_n dJ7_init_17 rfl rfl jv_rr ?_
    refine jr_iconst dJ7_init_18 ic_0 ?_
    refine jr_putI fp_J7_22_25 k_a0 (so_n26 rfl) (fun h => by cases h) rfl rfl dJ7_init_19 ?_
    refine so_let_e hf (fun S5 hf => ?_)
    refine jr_goto (tgt := 38) dJ7_init_22 rfl ?_
    obtain rfl := so_e1 hf
    exact jr_vret rfl dJ7_init_38

/- J8_init -/
abbrev kJ8_init : jx_K := (cJ8_init, 1, RJ8, 2, (Option.none : Option Jvm.ClassFile.FieldType), "<init>", [])
def fJ8_init (a0 : Nat) (S : so_St) : Option so_St :=
  (fJ7_init a0 (16 : Int32) S).bind fun S3 =>
  some S3
set_option maxHeartbeats 4000000 in
set_option maxRecDepth 100000 in
theorem wJ8_init {S' : so_St}  (a0 : Nat)  (S : so_St) (k_a0 : a0 % 64 ∈ [25]) (hf : fJ8_init a0 S = some S') : jx_Sp 2 yJ8_init (ws_ yJ8_init cJ8_init 1 (Option.none : Option Jvm.ClassFile.FieldType)) [.ref a0] S (.inl none) S' := by
  refine jx_of (plainFor_of_name (by decide)) (so_le rfl) ?_
  show jg_ (S, S', .inl none) kJ8_init 0 [(0, .ref a0)] [] S
  unfold fJ8_init at hf
  refine jr_aload_n dJ8_init_0 rfl rfl jv_rr ?_
  refine jr_bipush dJ8_init_1 bp_16 ?_
  obtain ⟨S3, h1, hf⟩ := so_b hf
  refine jr_call (st := []) lk_J8_1 (wJ7_init a0 (16 : Int32) S k_a0 h1) (jk_r1 (so_n63 k_a0 rfl)) rfl rfl (so_le rfl) (so_le rfl) dJ8_init_3 ?_
  obtain rfl := so_e1 hf
  exact jr_vret rfl dJ8_init_6

/- J7_length -/
abbrev kJ7_length : jx_K := (cJ7_length, 1, RJ7, 0, (Option.some Jvm.ClassFile.FieldType.int), "length", [])
def fJ7_length (a0 : Nat) (S : so_St) : Option Int32 :=
  some (so_I S a0 3)
set_option maxHeartbeats 4000000 in
set_option maxRecDepth 100000 in
theorem wJ7_length {res : Int32}  (a0 : Nat)  (S : so_St) (k_a0 : a0 % 64 ∈ [25]) (hf : fJ7_length a0 S = some res) : jx_Sp 0 yJ7_length (ws_ yJ7_length cJ7_length 1 (Option.some Jvm.ClassFile.FieldType.int)) [.ref a0] S (.inl (some (.int res))) S := by
  refine jx_of (plainFor_of_name (by decide)) (so_le rfl) ?_
  show jg_ (S, S, .inl (some (.int res))) kJ7_length 0 [(0, .ref a0)] [] S
  unfold fJ7_length at hf
  refine jr_aload_n dJ7_length_0 rfl rfl jv_rr ?_
  refine jr_getI fl_J7_79_25 k_a0 (so_n26 rfl) dJ7_length_1 ?_
  obtain rfl := so_e1 hf
  exact jr_iret rfl rfl dJ7_length_4

/- J8_length -/
abbrev kJ8_length : jx_K := (cJ8_length, 1, RJ8, 1, (Option.some Jvm.ClassFile.FieldType.int), "length", [])
def fJ8_length (a0 : Nat) (S : so_St) : Option Int32 :=
  (fJ7_length a0 S).bind fun r2 =>
  some r2
set_option maxHeartbeats 4000000 in
set_option maxRecDepth 100000 in
theorem wJ8_length {res : Int32}  (a0 : Nat)  (S : so_St) (k_a0 : a0 % 64 ∈ [25]) (hf : fJ8_length a0 S = some res) : jx_Sp 1 yJ8_length (ws_ yJ8_length cJ8_length 1 (Option.some Jvm.ClassFile.FieldType.int)) [.ref a0] S (.inl (some (.int res))) S := by
  refine jx_of (plainFor_of_name (by decide)) (so_le rfl) ?_
  show jg_ (S, S, .inl (some (.int res))) kJ8_length 0 [(0, .ref a0)] [] S
  unfold fJ8_length at hf
  refine jr_aload_n dJ8_length_0 rfl rfl jv_rr ?_
  obtain ⟨r2, h1, hf⟩ := so_b hf
  refine jr_callM (st := []) lk_J8_343 (wJ7_length a0 S k_a0 h1) k_a0 rfl rfl rfl (so_le rfl) (so_le rfl) dJ8_length_1 ?_
  obtain rfl := so_e1 hf
  exact jr_iret rfl rfl dJ8_length_4

/- J7_ensureCapacityInternal -/
abbrev kJ7_ensureCapacityInternal : jx_K := (cJ7_ensureCapacityInternal, 3, RJ7, 0, (Option.none : Option Jvm.ClassFile.FieldType), "ensureCapacityInternal", [])
def fJ7_ensureCapacityInternal (a0 : Nat) (a1 : Int32) (S : so_St) : Option Unit :=
  (so_rk (so_R S a0 0) [51]).bind fun p1 =>
  if (a1 - ((Int32.ofNat (so_l S p1)) >>> ((so_I S a0 1) &&& 31))) ≤ (0 : Int32) then
  (some ())
  else
  ((so_rk (so_R S a0 0) [51]).bind fun p4 =>
  none)
set_option maxHeartbeats 4000000 in
set_option maxRecDepth 100000 in
theorem wJ7_ensureCapacityInternal  (a0 : Nat) (a1 : Int32)  (S : so_St) (k_a0 : a0 % 64 ∈ [25]) (hf : fJ7_ensureCapacityInternal a0 a1 S = some ()) : jx_Sp 0 yJ7_ensureCapacityInternal (ws_ yJ7_ensureCapacityInternal cJ7_ensureCapacityInternal 3 (Option.none : Option Jvm.ClassFile.FieldType)) [.ref a0, .int a1] S (.inl none) S := by
  refine jx_of (plainFor_of_name (by decide)) (so_le rfl) ?_
  show jg_ (S, S, .inl none) kJ7_ensureCapacityInternal 0 [(0, .ref a0), (1, .int a1)] [] S
  unfold fJ7_ensureCapacityInternal at hf
  refine jr_aload_n dJ7_ensureCapacityInternal_0 rfl rfl jv_rr ?_
  refine jr_getR fl_J7_15_25 k_a0 (so_n26 rfl) dJ7_ensureCapacityInternal_1 ?_
  obtain ⟨p1, h2, hf⟩ := so_b hf
  obtain ⟨h2, k_p1⟩ := so_rk_s h2
  refine jr_rf h2 ?_
  refine jr_alenB (so_m1 k_p1) dJ7_ensureCapacityInternal_4 ?_
  refine jr_aload_n dJ7_ensureCapacityInternal_5 rfl rfl jv_rr ?_
  refine jr_getI fl_J7_22_25 k_a0 (so_n26 rfl) dJ7_ensureCapacityInternal_6 ?_
  refine jr_ishr dJ7_ensureCapacityInternal_9 ?_
  refine jr_istore_n (lv' := [(0, .ref a0), (1, .int a1), (2, .int ((Int32.ofNat (so_l S p1)) >>> ((so_I S a0 1) &&& 31)))]) dJ7_ensureCapacityInternal_10 rfl (so_le rfl) rfl ?_
  refine jr_iload_n dJ7_ensureCapacityInternal_11 rfl rfl ?_
  refine jr_iload_n dJ7_ensureCapacityInternal_12 rfl rfl ?_
  refine jr_isub dJ7_ensureCapacityInternal_13 ?_
  refine jr_if_le (tgt := 38) dJ7_ensureCapacityInternal_14 rfl (fun c3 => ?_) (fun c3 => ?_)
  · have hf := so_t c3 hf
    exact jr_vret rfl dJ7_ensureCapacityInternal_38
  · have hf := so_f c3 hf
    refine jr_aload_n dJ7_ensureCapacityInternal_17 rfl rfl jv_rr ?_
    refine jr_aload_n dJ7_ensureCapacityInternal_18 rfl rfl jv_rr ?_
    refine jr_getR fl_J7_15_25 k_a0 (so_n26 rfl) dJ7_ensureCapacityInternal_19 ?_
    obtain ⟨p4, h5, hf⟩ := so_b hf
    obtain ⟨h5, k_p4⟩ := so_rk_s h5
    refine jr_rf h5 ?_
    refine jr_aload_n dJ7_ensureCapacityInternal_22 rfl rfl jv_rr ?_
    refine jr_iload_n dJ7_ensureCapacityInternal_23 rfl rfl ?_
    exact so_no hf

/- J7_isLatin1 -/
abbrev kJ7_isLatin1 : jx_K := (cJ7_isLatin1, 1, RJ7, 0, (Option.some Jvm.ClassFile.FieldType.boolean), "isLatin1", [])
def fJ7_isLatin1 (a0 : Nat) (S : so_St) : Option Int32 :=
  if (1 : Int32) = (0 : Int32) then
  (some (0 : Int32))
  else
  (if (so_I S a0 1) = (0 : Int32) then
  (some (1 : Int32))
  else
  (some (0 : Int32)))
set_option maxHeartbeats 4000000 in
set_option maxRecDepth 100000 in
theorem wJ7_isLatin1 {res : Int32}  (a0 : Nat)  (S : so_St) (k_a0 : a0 % 64 ∈ [25]) (hf : fJ7_isLatin1 a0 S = some res) : jx_Sp 0 yJ7_isLatin1 (ws_ yJ7_isLatin1 cJ7_isLatin1 1 (Option.some Jvm.ClassFile.FieldType.boolean)) [.ref a0] S (.inl (some (.int res))) S := by
  refine jx_of (plainFor_of_name (by decide)) (so_le rfl) ?_
  show jg_ (S, S, .inl (some (.int res))) kJ7_isLatin1 0 [(0, .ref a0)] [] S
  unfold fJ7_isLatin1 at hf
  refine jr_gsC q229 dJ7_isLatin1_0 ?_
  refine jr_if_eq (tgt := 17) dJ7_isLatin1_3 rfl (fun c1 => ?_) (fun c1 => ?_)
  · have hf := so_t c1 hf
    refine jr_iconst dJ7_isLatin1_17 ic_0 ?_
    obtain rfl := so_e1 hf
    exact jr_iret rfl rfl dJ7_isLatin1_18
  · have hf := so_f c1 hf
    refine jr_aload_n dJ7_isLatin1_6 rfl rfl jv_rr ?_
    refine jr_getI fl_J7_22_25 k_a0 (so_n26 rfl) dJ7_isLatin1_7 ?_
    refine jr_if_ne (tgt := 17) dJ7_isLatin1_10 rfl (fun c2 => ?_) (fun c2 => ?_)
    · have hf := so_f c2 hf
      refine jr_iconst dJ7_isLatin1_17 ic_0 ?_
      obtain rfl := so_e1 hf
      exact jr_iret rfl rfl dJ7_isLatin1_18
    · have hf := so_t c2 hf
      refine jr_iconst dJ7_isLatin1_13 ic_1 ?_
      refine jr_goto (tgt := 18) dJ7_isLatin1_14 rfl ?_
      obtain rfl := so_e1 hf
      exact jr_iret rfl rfl dJ7_isLatin1_18

/- J15_canEncode -/
abbrev kJ15_canEncode : jx_K := (cJ15_canEncode, 1, RJ15, 0, (Option.some Jvm.ClassFile.FieldType.boolean), "canEncode", [])
def fJ15_canEncode (a0 : Int32) : Int32 :=
  if (255 : Int32) < a0 then
  ((0 : Int32))
  else
  ((1 : Int32))
set_option maxHeartbeats 4000000 in
set_option maxRecDepth 100000 in
theorem wJ15_canEncode {res : Int32}  (a0 : Int32)  (S : so_St)  (hf : fJ15_canEncode a0 = res) : jx_Sp 0 yJ15_canEncode (ws_ yJ15_canEncode cJ15_canEncode 1 (Option.some Jvm.ClassFile.FieldType.boolean)) [.int a0] S (.inl (some (.int res))) S := by
  refine jx_of (plainFor_of_name (by decide)) (so_le rfl) ?_
  show jg_ (S, S, .inl (some (.int res))) kJ15_canEncode 0 [(0, .int a0)] [] S
  unfold fJ15_canEncode at hf
  refine jr_iload_n dJ15_canEncode_0 rfl rfl ?_
  refine jr_sipush dJ15_canEncode_1 sp_255 ?_
  refine jr_icmp_gt (tgt := 11) dJ15_canEncode_4 rfl (fun c1 => ?_) (fun c1 => ?_)
  · have hf := so_t c1 hf
    refine jr_iconst dJ15_canEncode_11 ic_0 ?_
    obtain rfl := hf
    exact jr_iret rfl rfl dJ15_canEncode_12
  · have hf := so_f c1 hf
    refine jr_iconst dJ15_canEncode_7 ic_1 ?_
    refine jr_goto (tgt := 12) dJ15_canEncode_8 rfl ?_
    obtain rfl := hf
    exact jr_iret rfl rfl dJ15_canEncode_12

/- J7_append_3 -/
abbrev kJ7_append_3 : jx_K := (cJ7_append_3, 2, RJ7, 1, (Option.some (Jvm.ClassFile.FieldType.object "java/lang/AbstractStringBuilder")), "append", [])
def fJ7_append_3 (a0 : Nat) (a1 : Int32) (S : so_St) : Option (Nat × so_St) :=
  (fJ7_ensureCapacityInternal a0 ((so_I S a0 3) + (1 : Int32)) S).bind fun r2 =>
  (fJ7_isLatin1 a0 S).bind fun r4 =>
  so_j (κ := Unit → Option (Nat × so_St)) (ρ := Option (Nat × so_St)) (fun (_u : Unit) =>
  (fJ7_isLatin1 a0 S).bind fun r7 =>
  if r7 = (0 : Int32) then
  ((so_rk (so_R S a0 0) [51]).bind fun p9 =>
  so_let (so_sI S a0 3 ((so_I S a0 3) + (1 : Int32))) fun S11 =>
  none)
  else
  (none))
  (fun J5 =>
  if r4 = (0 : Int32) then
  (J5 ())
  else
  (if (fJ15_canEncode a1) = (0 : Int32) then
  (J5 ())
  else
  ((so_rk (so_R S a0 0) [51]).bind fun p14 =>
  so_let (so_sI S a0 3 ((so_I S a0 3) + (1 : Int32))) fun S16 =>
  so_gd (so_in (so_I S a0 3) (so_l S16 p14)) fun _ =>
  so_gd (so_big p14) fun _ =>
  so_let (so_sI S16 p14 (so_I S a0 3).toNatClampNeg a1.toInt8.toInt32.toInt8.toInt32) fun S19 =>
  some (a0, S19))))
set_option maxHeartbeats 4000000 in
set_option maxRecDepth 100000 in
theorem wJ7_append_3 {res : Nat} {S' : so_St}  (a0 : Nat) (a1 : Int32)  (S : so_St) (k_a0 : a0 % 64 ∈ [25]) (hf : fJ7_append_3 a0 a1 S = some (res, S')) : jx_Sp 1 yJ7_append_3 (ws_ yJ7_append_3 cJ7_append_3 2 (Option.some (Jvm.ClassFile.FieldType.object "java/lang/AbstractStringBuilder"))) [.ref a0, .int a1] S (.inl (some (.ref res))) S' := by
  refine jx_of (plainFor_of_name (by decide)) (so_le rfl) ?_
  show jg_ (S, S', .inl (some (.ref res))) kJ7_append_3 0 [(0, .ref a0), (1, .int a1)] [] S
  unfold fJ7_append_3 at hf
  refine jr_aload_n dJ7_append_3_0 rfl rfl jv_rr ?_
  refine jr_aload_n dJ7_append_3_1 rfl rfl jv_rr ?_
  refine jr_getI fl_J7_79_25 k_a0 (so_n26 rfl) dJ7_append_3_2 ?_
  refine jr_iconst dJ7_append_3_5 ic_1 ?_
  refine jr_iadd dJ7_append_3_6 ?_
  obtain ⟨r2, h1, hf⟩ := so_b hf
  refine jr_callM (st := []) lk_J7_100_25 (wJ7_ensureCapacityInternal a0 ((so_I S a0 3) + (1 : Int32)) S k_a0 h1) k_a0 rfl rfl rfl (so_le rfl) (so_le rfl) dJ7_append_3_7 ?_
  refine jr_aload_n dJ7_append_3_10 rfl rfl jv_rr ?_
  obtain ⟨r4, h3, hf⟩ := so_b hf
  refine jr_callM (st := []) lk_J7_83_25 (wJ7_isLatin1 a0 S k_a0 h3) k_a0 rfl rfl rfl (so_le rfl) (so_le rfl) dJ7_append_3_11 ?_
  refine so_jE hf (fun J => ∀ (u0 : Unit), J u0 = some (res, S') → jg_ (S, S', .inl (some (.ref res))) kJ7_append_3 45 [(0, .ref a0), (1, .int a1)] [] S) (fun _u hf => ?_) (fun J5 hJ5 hf => ?_)
  · refine jr_aload_n dJ7_append_3_45 rfl rfl jv_rr ?_
    obtain ⟨r7, h6, hf⟩ := so_b hf
    refine jr_callM (st := []) lk_J7_83_25 (wJ7_isLatin1 a0 S k_a0 h6) k_a0 rfl rfl rfl (so_le rfl) (so_le rfl) dJ7_append_3_46 ?_
    refine jr_if_eq (tgt := 56) dJ7_append_3_49 rfl (fun c8 => ?_) (fun c8 => ?_)
    · have hf := so_t c8 hf
      refine jr_aload_n dJ7_append_3_56 rfl rfl jv_rr ?_
      refine jr_getR fl_J7_15_25 k_a0 (so_n26 rfl) dJ7_append_3_57 ?_
      obtain ⟨p9, h10, hf⟩ := so_b hf
      obtain ⟨h10, k_p9⟩ := so_rk_s h10
      refine jr_rf h10 ?_
      refine jr_aload_n dJ7_append_3_60 rfl rfl jv_rr ?_
      refine jr_dup dJ7_append_3_61 rfl ?_
      refine jr_getI fl_J7_79_25 k_a0 (so_n26 rfl) dJ7_append_3_62 ?_
      refine jr_dup_x1 dJ7_append_3_65 rfl rfl ?_
      refine jr_iconst dJ7_append_3_66 ic_1 ?_
      refine jr_iadd dJ7_append_3_67 ?_
      refine jr_putI fp_J7_79_25 k_a0 (so_n26 rfl) (fun h => by cases h) rfl rfl dJ7_append_3_68 ?_
      refine so_let_e hf (fun S11 hf => ?_)
      refine jr_iload_n dJ7_append_3_71 rfl rfl ?_
      exact so_no hf
    · have hf := so_f c8 hf
      refine jr_aload_n dJ7_append_3_52 rfl rfl jv_rr ?_
      exact so_no hf
  · refine jr_if_eq (tgt := 45) dJ7_append_3_14 rfl (fun c12 => ?_) (fun c12 => ?_)
    · have hf := so_t c12 hf
      exact hJ5 () hf
    · have hf := so_f c12 hf
      refine jr_iload_n dJ7_append_3_17 rfl rfl ?_
      refine jr_call (st := []) lk_J7_191 (wJ15_canEncode a1 S rfl) jk_r0 rfl rfl (so_le rfl) (so_le rfl) dJ7_append_3_18 ?_
      refine jr_if_eq (tgt := 45) dJ7_append_3_21 rfl (fun c13 => ?_) (fun c13 => ?_)
      · have hf := so_t c13 hf
        exact hJ5 () hf
      · have hf := so_f c13 hf
        refine jr_aload_n dJ7_append_3_24 rfl rfl jv_rr ?_
        refine jr_getR fl_J7_15_25 k_a0 (so_n26 rfl) dJ7_append_3_25 ?_
        obtain ⟨p14, h15, hf⟩ := so_b hf
        obtain ⟨h15, k_p14⟩ := so_rk_s h15
        refine jr_rf h15 ?_
        refine jr_aload_n dJ7_append_3_28 rfl rfl jv_rr ?_
        refine jr_dup dJ7_append_3_29 rfl ?_
        refine jr_getI fl_J7_79_25 k_a0 (so_n26 rfl) dJ7_append_3_30 ?_
        refine jr_dup_x1 dJ7_append_3_33 rfl rfl ?_
        refine jr_iconst dJ7_append_3_34 ic_1 ?_
        refine jr_iadd dJ7_append_3_35 ?_
        refine jr_putI fp_J7_79_25 k_a0 (so_n26 rfl) (fun h => by cases h) rfl rfl dJ7_append_3_36 ?_
        refine so_let_e hf (fun S16 hf => ?_)
        refine jr_iload_n dJ7_append_3_39 rfl rfl ?_
        refine jr_i2b dJ7_append_3_40 ?_
        obtain ⟨g17, hf⟩ := so_gdE hf
        obtain ⟨g18, hf⟩ := so_gdE hf
        refine jr_bastore (so_m1 k_p14) (so_bigE g18) (so_inE g17) dJ7_append_3_41 ?_
        refine so_let_e hf (fun S19 hf => ?_)
        refine jr_goto (tgt := 75) dJ7_append_3_42 rfl ?_
        refine jr_aload_n dJ7_append_3_75 rfl rfl jv_rr ?_
        obtain ⟨rfl, rfl⟩ := so_e2 hf
        exact jr_aret rfl (Or.inl ⟨_, rfl⟩) jv_rr dJ7_append_3_76

/- J8_append_3 -/
abbrev kJ8_append_3 : jx_K := (cJ8_append_3, 2, RJ8, 2, (Option.some (Jvm.ClassFile.FieldType.object "java/lang/StringBuilder")), "append", [])
def fJ8_append_3 (a0 : Nat) (a1 : Int32) (S : so_St) : Option (Nat × so_St) :=
  so_b2 (fJ7_append_3 a0 a1 S) fun r2 S3 =>
  so_gd (decide (r2 % 64 ∈ [25])) fun _ =>
  some (a0, S3)
set_option maxHeartbeats 4000000 in
set_option maxRecDepth 100000 in
theorem wJ8_append_3 {res : Nat} {S' : so_St}  (a0 : Nat) (a1 : Int32)  (S : so_St) (k_a0 : a0 % 64 ∈ [25]) (hf : fJ8_append_3 a0 a1 S = some (res, S')) : jx_Sp 2 yJ8_append_3 (ws_ yJ8_append_3 cJ8_append_3 2 (Option.some (Jvm.ClassFile.FieldType.object "java/lang/StringBuilder"))) [.ref a0, .int a1] S (.inl (some (.ref res))) S' := by
  refine jx_of (plainFor_of_name (by decide)) (so_le rfl) ?_
  show jg_ (S, S', .inl (some (.ref res))) kJ8_append_3 0 [(0, .ref a0), (1, .int a1)] [] S
  unfold fJ8_append_3 at hf
  refine jr_aload_n dJ8_append_3_0 rfl rfl jv_rr ?_
  refine jr_iload_n dJ8_append_3_1 rfl rfl ?_
  obtain ⟨r2, S3, h1, hf⟩ := so_b2E hf
  obtain ⟨g4, hf⟩ := so_gdE hf
  refine jr_callM (st := []) lk_J8_50 (wJ7_append_3 a0 a1 S k_a0 h1) k_a0 rfl rfl rfl (so_le rfl) (so_le rfl) dJ8_append_3_2 ?_
  refine jr_pop dJ8_append_3_5 rfl ?_
  refine jr_aload_n dJ8_append_3_6 rfl rfl jv_rr ?_
  obtain ⟨rfl, rfl⟩ := so_e2 hf
  exact jr_aret rfl (Or.inl ⟨_, rfl⟩) jv_rr dJ8_append_3_7

/- J7_getValue -/
abbrev kJ7_getValue : jx_K := (cJ7_getValue, 1, RJ7, 0, (Option.some (Jvm.ClassFile.FieldType.array Jvm.ClassFile.FieldType.byte)), "getValue", [])
def fJ7_getValue (a0 : Nat) (S : so_St) : Option Nat :=
  (so_rk (so_R S a0 0) [51]).bind fun p1 =>
  some p1
set_option maxHeartbeats 4000000 in
set_option maxRecDepth 100000 in
theorem wJ7_getValue {res : Nat}  (a0 : Nat)  (S : so_St) (k_a0 : a0 % 64 ∈ [25]) (hf : fJ7_getValue a0 S = some res) : jx_Sp 0 yJ7_getValue (ws_ yJ7_getValue cJ7_getValue 1 (Option.some (Jvm.ClassFile.FieldType.array Jvm.ClassFile.FieldType.byte))) [.ref a0] S (.inl (some (.ref res))) S := by
  refine jx_of (plainFor_of_name (by decide)) (so_le rfl) ?_
  show jg_ (S, S, .inl (some (.ref res))) kJ7_getValue 0 [(0, .ref a0)] [] S
  unfold fJ7_getValue at hf
  refine jr_aload_n dJ7_getValue_0 rfl rfl jv_rr ?_
  refine jr_getR fl_J7_15_25 k_a0 (so_n26 rfl) dJ7_getValue_1 ?_
  obtain ⟨p1, h2, hf⟩ := so_b hf
  obtain ⟨h2, k_p1⟩ := so_rk_s h2
  refine jr_rf h2 ?_
  obtain rfl := so_e1 hf
  exact jr_aret rfl (Or.inr ⟨_, rfl⟩) jv_rr dJ7_getValue_4

/- J13_checkLength -/
abbrev kJ13_checkLength : jx_K := (cJ13_checkLength, 2, RJ13, 0, (Option.none : Option Jvm.ClassFile.FieldType), "checkLength", [])
def fJ13_checkLength (a0 : Int32) (a1 : Int32) (S : so_St) : Option Unit :=
  if a0 ≤ a1 then
  (some ())
  else
  (none)
set_option maxHeartbeats 4000000 in
set_option maxRecDepth 100000 in
theorem wJ13_checkLength  (a0 : Int32) (a1 : Int32)  (S : so_St)  (hf : fJ13_checkLength a0 a1 S = some ()) : jx_Sp 0 yJ13_checkLength (ws_ yJ13_checkLength cJ13_checkLength 2 (Option.none : Option Jvm.ClassFile.FieldType)) [.int a0, .int a1] S (.inl none) S := by
  refine jx_of (plainFor_of_name (by decide)) (so_le rfl) ?_
  show jg_ (S, S, .inl none) kJ13_checkLength 0 [(0, .int a0), (1, .int a1)] [] S
  unfold fJ13_checkLength at hf
  refine jr_iload_n dJ13_checkLength_0 rfl rfl ?_
  refine jr_iload_n dJ13_checkLength_1 rfl rfl ?_
  refine jr_icmp_ge (tgt := 37) dJ13_checkLength_2 rfl (fun c1 => ?_) (fun c1 => ?_)
  · have hf := so_t c1 hf
    exact jr_vret rfl dJ13_checkLength_37
  · have hf := so_f c1 hf
    exact so_no hf

/- J12_min -/
abbrev kJ12_min : jx_K := (cJ12_min, 2, RJ12, 0, (Option.some Jvm.ClassFile.FieldType.int), "min", [])
def fJ12_min (a0 : Int32) (a1 : Int32) : Int32 :=
  if a1 < a0 then
  (a1)
  else
  (a0)
set_option maxHeartbeats 4000000 in
set_option maxRecDepth 100000 in
theorem wJ12_min {res : Int32}  (a0 : Int32) (a1 : Int32)  (S : so_St)  (hf : fJ12_min a0 a1 = res) : jx_Sp 0 yJ12_min (ws_ yJ12_min cJ12_min 2 (Option.some Jvm.ClassFile.FieldType.int)) [.int a0, .int a1] S (.inl (some (.int res))) S := by
  refine jx_of (by decide +kernel) (so_le rfl) ?_
  show jg_ (S, S, .inl (some (.int res))) kJ12_min 0 [(0, .int a0), (1, .int a1)] [] S
  unfold fJ12_min at hf
  refine jr_iload_n dJ12_min_0 rfl rfl ?_
  refine jr_iload_n dJ12_min_1 rfl rfl ?_
  refine jr_icmp_gt (tgt := 9) dJ12_min_2 rfl (fun c1 => ?_) (fun c1 => ?_)
  · have hf := so_t c1 hf
    refine jr_iload_n dJ12_min_9 rfl rfl ?_
    obtain rfl := hf
    exact jr_iret rfl rfl dJ12_min_10
  · have hf := so_f c1 hf
    refine jr_iload_n dJ12_min_5 rfl rfl ?_
    refine jr_goto (tgt := 10) dJ12_min_6 rfl ?_
    obtain rfl := hf
    exact jr_iret rfl rfl dJ12_min_10

/- J13_copyOfRangeByte -/
abbrev kJ13_copyOfRangeByte : jx_K := (cJ13_copyOfRangeByte, 5, RJ13, 1, (Option.some (Jvm.ClassFile.FieldType.array Jvm.ClassFile.FieldType.byte)), "copyOfRangeByte", [])
def fJ13_copyOfRangeByte (a0 : Nat) (a1 : Int32) (a2 : Int32) (S : so_St) : Option (Nat × so_St) :=
  (fJ13_checkLength a1 a2 S).bind fun r2 =>
  so_gd (so_len (a2 - a1)) fun _ =>
  so_let (so_new S 51 (a2 - a1).toNatClampNeg (a2 - a1).toNatClampNeg) fun S4 =>
  so_gd (so_cp a1 (0 : Int32) (fJ12_min ((Int32.ofNat (so_l S4 a0)) - a1) (a2 - a1)) (so_l S4 a0) (so_l S4 (so_at S 51))) fun _ =>
  so_gd (so_big a0) fun _ =>
  so_gd (so_big (so_at S 51)) fun _ =>
  so_let (so_cpI S4 a0 (so_at S 51) a1.toNatClampNeg (0 : Int32).toNatClampNeg (fJ12_min ((Int32.ofNat (so_l S4 a0)) - a1) (a2 - a1)).toNatClampNeg) fun S8 =>
  some ((so_at S 51), S8)
set_option maxHeartbeats 4000000 in
set_option maxRecDepth 100000 in
theorem wJ13_copyOfRangeByte {res : Nat} {S' : so_St}  (a0 : Nat) (a1 : Int32) (a2 : Int32)  (S : so_St) (k_a0 : a0 % 64 ∈ [51]) (hf : fJ13_copyOfRangeByte a0 a1 a2 S = some (res, S')) : jx_Sp 1 yJ13_copyOfRangeByte (ws_ yJ13_copyOfRangeByte cJ13_copyOfRangeByte 5 (Option.some (Jvm.ClassFile.FieldType.array Jvm.ClassFile.FieldType.byte))) [.ref a0, .int a1, .int a2] S (.inl (some (.ref res))) S' := by
  refine jx_of (plainFor_of_name (by decide)) (so_le rfl) ?_
  show jg_ (S, S', .inl (some (.ref res))) kJ13_copyOfRangeByte 0 [(0, .ref a0), (1, .int a1), (2, .int a2)] [] S
  unfold fJ13_copyOfRangeByte at hf
  refine jr_iload_n dJ13_copyOfRangeByte_0 rfl rfl ?_
  refine jr_iload_n dJ13_copyOfRangeByte_1 rfl rfl ?_
  obtain ⟨r2, h1, hf⟩ := so_b hf
  refine jr_call (st := []) lk_J13_343 (wJ13_checkLength a1 a2 S h1) jk_r0 rfl rfl (so_le rfl) (so_le rfl) dJ13_copyOfRangeByte_2 ?_
  refine jr_iload_n dJ13_copyOfRangeByte_5 rfl rfl ?_
  refine jr_iload_n dJ13_copyOfRangeByte_6 rfl rfl ?_
  refine jr_isub dJ13_copyOfRangeByte_7 ?_
  refine jr_istore_n (lv' := [(0, .ref a0), (1, .int a1), (2, .int a2), (3, .int (a2 - a1))]) dJ13_copyOfRangeByte_8 rfl (so_le rfl) rfl ?_
  refine jr_iload_n dJ13_copyOfRangeByte_9 rfl rfl ?_
  obtain ⟨g3, hf⟩ := so_gdE hf
  refine jr_newb q252 (so_lenE g3).1 (so_lenE g3).2 dJ13_copyOfRangeByte_10 ?_
  refine so_let_e hf (fun S4 hf => ?_)
  refine jr_astore (lv' := [(0, .ref a0), (1, .int a1), (2, .int a2), (3, .int (a2 - a1)), (4, .ref (so_at S 51))]) dJ13_copyOfRangeByte_12 (so_le rfl) jv_rr rfl ?_
  refine jr_aload_n dJ13_copyOfRangeByte_14 rfl rfl jv_rr ?_
  refine jr_iload_n dJ13_copyOfRangeByte_15 rfl rfl ?_
  refine jr_aload dJ13_copyOfRangeByte_16 rfl jv_rr ?_
  refine jr_iconst dJ13_copyOfRangeByte_18 ic_0 ?_
  refine jr_aload_n dJ13_copyOfRangeByte_19 rfl rfl jv_rr ?_
  refine jr_alenB (so_m1 k_a0) dJ13_copyOfRangeByte_20 ?_
  refine jr_iload_n dJ13_copyOfRangeByte_21 rfl rfl ?_
  refine jr_isub dJ13_copyOfRangeByte_22 ?_
  refine jr_iload_n dJ13_copyOfRangeByte_23 rfl rfl ?_
  refine jr_call (st := [.int (0 : Int32), .ref (so_at S 51), .int a1, .ref a0]) lk_J13_304 (wJ12_min ((Int32.ofNat (so_l S4 a0)) - a1) (a2 - a1) S4 rfl) jk_r0 rfl rfl (so_le rfl) (so_le rfl) dJ13_copyOfRangeByte_24 ?_
  obtain ⟨g5, hf⟩ := so_gdE hf
  obtain ⟨g6, hf⟩ := so_gdE hf
  obtain ⟨g7, hf⟩ := so_gdE hf
  refine jr_copyB q297 q299 q298 q115 (so_m1 k_a0) (so_m1 (so_atk rfl)) (so_bigE g6) (so_bigE g7) (so_cpE g5).1 (so_cpE g5).2.1 (so_cpE g5).2.2.1 (so_cpE g5).2.2.2.1 (so_cpE g5).2.2.2.2 (so_le rfl) (so_le rfl) dJ13_copyOfRangeByte_27 ?_
  refine so_let_e hf (fun S8 hf => ?_)
  refine jr_aload dJ13_copyOfRangeByte_30 rfl jv_rr ?_
  obtain ⟨rfl, rfl⟩ := so_e2 hf
  exact jr_aret rfl (Or.inr ⟨_, rfl⟩) jv_rr dJ13_copyOfRangeByte_32

/- J13_copyOfRange -/
abbrev kJ13_copyOfRange : jx_K := (cJ13_copyOfRange, 3, RJ13, 2, (Option.some (Jvm.ClassFile.FieldType.array Jvm.ClassFile.FieldType.byte)), "copyOfRange", [])
def fJ13_copyOfRange (a0 : Nat) (a1 : Int32) (a2 : Int32) (S : so_St) : Option (Nat × so_St) :=
  so_j (κ := Unit → Option (Nat × so_St)) (ρ := Option (Nat × so_St)) (fun (_u : Unit) =>
  so_b2 (fJ13_copyOfRangeByte a0 a1 a2 S) fun r3 S4 =>
  so_gd (decide (r3 % 64 ∈ [51])) fun _ =>
  some (r3, S4))
  (fun J1 =>
  if a1 = (0 : Int32) then
  (if a2 = (Int32.ofNat (so_l S a0)) then
  (none)
  else
  (J1 ()))
  else
  (J1 ()))
set_option maxHeartbeats 4000000 in
set_option maxRecDepth 100000 in
theorem wJ13_copyOfRange {res : Nat} {S' : so_St}  (a0 : Nat) (a1 : Int32) (a2 : Int32)  (S : so_St) (k_a0 : a0 % 64 ∈ [51]) (hf : fJ13_copyOfRange a0 a1 a2 S = some (res, S')) : jx_Sp 2 yJ13_copyOfRange (ws_ yJ13_copyOfRange cJ13_copyOfRange 3 (Option.some (Jvm.ClassFile.FieldType.array Jvm.ClassFile.FieldType.byte))) [.ref a0, .int a1, .int a2] S (.inl (some (.ref res))) S' := by
  refine jx_of (plainFor_of_name (by decide)) (so_le rfl) ?_
  show jg_ (S, S', .inl (some (.ref res))) kJ13_copyOfRange 0 [(0, .ref a0), (1, .int a1), (2, .int a2)] [] S
  unfold fJ13_copyOfRange at hf
  refine jr_iload_n dJ13_copyOfRange_0 rfl rfl ?_
  refine so_jE hf (fun J => ∀ (u0 : Unit), J u0 = some (res, S') → jg_ (S, S', .inl (some (.ref res))) kJ13_copyOfRange 10 [(0, .ref a0), (1, .int a1), (2, .int a2)] [] S) (fun _u hf => ?_) (fun J1 hJ1 hf => ?_)
  · refine jr_aload_n dJ13_copyOfRange_10 rfl rfl jv_rr ?_
    refine jr_iload_n dJ13_copyOfRange_11 rfl rfl ?_
    refine jr_iload_n dJ13_copyOfRange_12 rfl rfl ?_
    obtain ⟨r3, S4, h2, hf⟩ := so_b2E hf
    obtain ⟨g5, hf⟩ := so_gdE hf
    refine jr_call (st := []) lk_J13_339 (wJ13_copyOfRangeByte a0 a1 a2 S k_a0 h2) jk_r0 rfl rfl (so_le rfl) (so_le rfl) dJ13_copyOfRange_13 ?_
    obtain ⟨rfl, rfl⟩ := so_e2 hf
    exact jr_aret rfl (Or.inr ⟨_, rfl⟩) jv_rr dJ13_copyOfRange_16
  · refine jr_if_ne (tgt := 10) dJ13_copyOfRange_1 rfl (fun c6 => ?_) (fun c6 => ?_)
    · have hf := so_f c6 hf
      exact hJ1 () hf
    · have hf := so_t c6 hf
      refine jr_iload_n dJ13_copyOfRange_4 rfl rfl ?_
      refine jr_aload_n dJ13_copyOfRange_5 rfl rfl jv_rr ?_
      refine jr_alenB (so_m1 k_a0) dJ13_copyOfRange_6 ?_
      refine jr_icmp_eq (tgt := 17) dJ13_copyOfRange_7 rfl (fun c7 => ?_) (fun c7 => ?_)
      · have hf := so_t c7 hf
        refine jr_aload_n dJ13_copyOfRange_17 rfl rfl jv_rr ?_
        exact so_no hf
      · have hf := so_f c7 hf
        exact hJ1 () hf

/- J9_init_2 -/
abbrev kJ9_init_2 : jx_K := (cJ9_init_2, 5, RJ9, 3, (Option.none : Option Jvm.ClassFile.FieldType), "<init>", [])
def fJ9_init_2 (a0 : Nat) (a1 : Nat) (a2 : Option Nat) (S : so_St) : Option so_St :=
  (fJ7_getValue a1 S).bind fun r2 =>
  so_gd (decide (r2 % 64 ∈ [51])) fun _ =>
  (fJ8_length a1 S).bind fun r5 =>
  (fJ7_isLatin1 a1 S).bind fun r7 =>
  if r7 = (0 : Int32) then
  (so_j (κ := Unit → Option so_St) (ρ := Option so_St) (fun (_u : Unit) =>
  so_let (so_sI S a0 1 (1 : Int32)) fun S10 =>
  so_b2 (fJ13_copyOfRange r2 (0 : Int32) (r5 <<< ((1 : Int32) &&& 31)) S10) fun r12 S13 =>
  so_gd (decide (r12 % 64 ∈ [51])) fun _ =>
  so_let (so_sR S13 a0 0 (some r12)) fun S15 =>
  some S15)
  (fun J9 =>
  if (1 : Int32) = (0 : Int32) then
  (J9 ())
  else
  (if (so_I S a1 2) = (0 : Int32) then
  (J9 ())
  else
  (none))))
  else
  (so_let (so_sI S a0 1 (0 : Int32)) fun S18 =>
  so_b2 (fJ13_copyOfRange r2 (0 : Int32) r5 S18) fun r20 S21 =>
  so_gd (decide (r20 % 64 ∈ [51])) fun _ =>
  so_let (so_sR S21 a0 0 (some r20)) fun S23 =>
  some S23)
set_option maxHeartbeats 4000000 in
set_option maxRecDepth 100000 in
theorem wJ9_init_2 {S' : so_St}  (a0 : Nat) (a1 : Nat) (a2 : Option Nat)  (S : so_St) (k_a0 : a0 % 64 ∈ [26]) (k_a1 : a1 % 64 ∈ [25]) (hb0 : 44 ≤ a0 / 64) (hf : fJ9_init_2 a0 a1 a2 S = some S') : jx_Sp 3 yJ9_init_2 (ws_ yJ9_init_2 cJ9_init_2 5 (Option.none : Option Jvm.ClassFile.FieldType)) [.ref a0, .ref a1, va_rf a2] S (.inl none) S' := by
  refine jx_of (plainFor_of_name (by decide)) (by cases a2 <;> exact so_le rfl) ?_
  show jg_ (S, S', .inl none) kJ9_init_2 0 [(0, .ref a0), (1, .ref a1), (2, va_rf a2)] [] S
  unfold fJ9_init_2 at hf
  refine jr_sub [0, 1] rfl ?_
  refine jr_aload_n dJ9_init_2_0 rfl rfl jv_rr ?_
  refine jr_objInit (so_n63 k_a0 rfl) q411 q155 q156 (so_le rfl) (so_le rfl) dJ9_init_2_1 ?_
  refine jr_aload_n dJ9_init_2_4 rfl rfl jv_rr ?_
  obtain ⟨r2, h1, hf⟩ := so_b hf
  obtain ⟨g3, hf⟩ := so_gdE hf
  refine jr_callM (st := []) lk_J9_552_25 (wJ7_getValue a1 S k_a1 h1) k_a1 rfl rfl rfl (so_le rfl) (so_le rfl) dJ9_init_2_5 ?_
  refine jr_astore_n (lv' := [(0, .ref a0), (1, .ref a1), (3, .ref r2)]) dJ9_init_2_8 rfl (so_le rfl) jv_rr rfl ?_
  refine jr_aload_n dJ9_init_2_9 rfl rfl jv_rr ?_
  obtain ⟨r5, h4, hf⟩ := so_b hf
  refine jr_callM (st := []) lk_J9_549_25 (wJ8_length a1 S k_a1 h4) k_a1 rfl rfl rfl (so_le rfl) (so_le rfl) dJ9_init_2_10 ?_
  refine jr_istore (lv' := [(0, .ref a0), (1, .ref a1), (3, .ref r2), (4, .int r5)]) dJ9_init_2_13 (so_le rfl) rfl ?_
  refine jr_aload_n dJ9_init_2_15 rfl rfl jv_rr ?_
  obtain ⟨r7, h6, hf⟩ := so_b hf
  refine jr_callM (st := []) lk_J9_1047_25 (wJ7_isLatin1 a1 S k_a1 h6) k_a1 rfl rfl rfl (so_le rfl) (so_le rfl) dJ9_init_2_16 ?_
  refine jr_if_eq (tgt := 41) dJ9_init_2_19 rfl (fun c8 => ?_) (fun c8 => ?_)
  · have hf := so_t c8 hf
    refine jr_gsC q339 dJ9_init_2_41 ?_
    refine so_jE hf (fun J => ∀ (u0 : Unit), J u0 = some S' → jg_ (S, S', .inl none) kJ9_init_2 79 [(0, .ref a0), (3, .ref r2), (4, .int r5)] [] S) (fun _u hf => ?_) (fun J9 hJ9 hf => ?_)
    · refine jr_aload_n dJ9_init_2_79 rfl rfl jv_rr ?_
      refine jr_iconst dJ9_init_2_80 ic_1 ?_
      refine jr_putI fp_J9_15_26 k_a0 (fun _ => hb0) (fun _ => rfl) rfl rfl dJ9_init_2_81 ?_
      refine so_let_e hf (fun S10 hf => ?_)
      refine jr_aload_n dJ9_init_2_84 rfl rfl jv_rr ?_
      refine jr_aload_n dJ9_init_2_85 rfl rfl jv_rr ?_
      refine jr_iconst dJ9_init_2_86 ic_0 ?_
      refine jr_iload dJ9_init_2_87 rfl ?_
      refine jr_iconst dJ9_init_2_89 ic_1 ?_
      refine jr_ishl dJ9_init_2_90 ?_
      obtain ⟨r12, S13, h11, hf⟩ := so_b2E hf
      obtain ⟨g14, hf⟩ := so_gdE hf
      refine jr_call (st := [.ref a0]) lk_J9_54 (wJ13_copyOfRange r2 (0 : Int32) (r5 <<< ((1 : Int32) &&& 31)) S10 (of_decide_eq_true g3) h11) jk_r0 rfl rfl (so_le rfl) (so_le rfl) dJ9_init_2_91 ?_
      refine jr_putR (r := (some r12)) rfl fp_J9_9_26 k_a0 (fun _ => hb0) (fun _ => rfl) rfl dJ9_init_2_94 ?_
      refine so_let_e hf (fun S15 hf => ?_)
      obtain rfl := so_e1 hf
      exact jr_vret rfl dJ9_init_2_97
    · refine jr_if_eq (tgt := 79) dJ9_init_2_44 rfl (fun c16 => ?_) (fun c16 => ?_)
      · have hf := so_t c16 hf
        refine jr_sub [0, 2, 3] rfl ?_
        exact hJ9 () hf
      · have hf := so_f c16 hf
        refine jr_aload_n dJ9_init_2_47 rfl rfl jv_rr ?_
        refine jr_getI fl_J9_1048_25 k_a1 (so_n26 rfl) dJ9_init_2_48 ?_
        refine jr_if_eq (tgt := 79) dJ9_init_2_51 rfl (fun c17 => ?_) (fun c17 => ?_)
        · have hf := so_t c17 hf
          refine jr_sub [0, 2, 3] rfl ?_
          exact hJ9 () hf
        · have hf := so_f c17 hf
          refine jr_aload_n dJ9_init_2_54 rfl rfl jv_rr ?_
          refine jr_aload_n dJ9_init_2_55 rfl rfl jv_rr ?_
          refine jr_iconst dJ9_init_2_56 ic_0 ?_
          refine jr_iload dJ9_init_2_57 rfl ?_
          exact so_no hf
  · have hf := so_f c8 hf
    refine jr_aload_n dJ9_init_2_22 rfl rfl jv_rr ?_
    refine jr_iconst dJ9_init_2_23 ic_0 ?_
    refine jr_putI fp_J9_15_26 k_a0 (fun _ => hb0) (fun _ => rfl) rfl rfl dJ9_init_2_24 ?_
    refine so_let_e hf (fun S18 hf => ?_)
    refine jr_aload_n dJ9_init_2_27 rfl rfl jv_rr ?_
    refine jr_aload_n dJ9_init_2_28 rfl rfl jv_rr ?_
    refine jr_iconst dJ9_init_2_29 ic_0 ?_
    refine jr_iload dJ9_init_2_30 rfl ?_
    obtain ⟨r20, S21, h19, hf⟩ := so_b2E hf
    obtain ⟨g22, hf⟩ := so_gdE hf
    refine jr_call (st := [.ref a0]) lk_J9_54 (wJ13_copyOfRange r2 (0 : Int32) r5 S18 (of_decide_eq_true g3) h19) jk_r0 rfl rfl (so_le rfl) (so_le rfl) dJ9_init_2_32 ?_
    refine jr_putR (r := (some r20)) rfl fp_J9_9_26 k_a0 (fun _ => hb0) (fun _ => rfl) rfl dJ9_init_2_35 ?_
    refine so_let_e hf (fun S23 hf => ?_)
    refine jr_goto (tgt := 97) dJ9_init_2_38 rfl ?_
    obtain rfl := so_e1 hf
    exact jr_vret rfl dJ9_init_2_97

/- J9_init -/
abbrev kJ9_init : jx_K := (cJ9_init, 2, RJ9, 4, (Option.none : Option Jvm.ClassFile.FieldType), "<init>", [])
def fJ9_init (a0 : Nat) (a1 : Nat) (S : so_St) : Option so_St :=
  (fJ9_init_2 a0 a1 none S).bind fun S3 =>
  some S3
set_option maxHeartbeats 4000000 in
set_option maxRecDepth 100000 in
theorem wJ9_init {S' : so_St}  (a0 : Nat) (a1 : Nat)  (S : so_St) (k_a0 : a0 % 64 ∈ [26]) (k_a1 : a1 % 64 ∈ [25]) (hb0 : 44 ≤ a0 / 64) (hf : fJ9_init a0 a1 S = some S') : jx_Sp 4 yJ9_init (ws_ yJ9_init cJ9_init 2 (Option.none : Option Jvm.ClassFile.FieldType)) [.ref a0, .ref a1] S (.inl none) S' := by
  refine jx_of (plainFor_of_name (by decide)) (so_le rfl) ?_
  show jg_ (S, S', .inl none) kJ9_init 0 [(0, .ref a0), (1, .ref a1)] [] S
  unfold fJ9_init at hf
  refine jr_aload_n dJ9_init_0 rfl rfl jv_rr ?_
  refine jr_aload_n dJ9_init_1 rfl rfl jv_rr ?_
  refine jr_null dJ9_init_2 ?_
  obtain ⟨S3, h1, hf⟩ := so_b hf
  refine jr_call (st := []) lk_J9_489 (wJ9_init_2 a0 a1 none S k_a0 k_a1 hb0 h1) (jk_r1 (so_n63 k_a0 rfl)) rfl rfl (so_le rfl) (so_le rfl) dJ9_init_3 ?_
  obtain rfl := so_e1 hf
  exact jr_vret rfl dJ9_init_6

/- J8_toString -/
abbrev kJ8_toString : jx_K := (cJ8_toString, 1, RJ8, 5, (Option.some (Jvm.ClassFile.FieldType.object "java/lang/String")), "toString", [])
def fJ8_toString (a0 : Nat) (S : so_St) : Option (Nat × so_St) :=
  so_let (so_new S 26 0 4) fun S1 =>
  so_gd (so_big (so_at S 26)) fun _ =>
  (fJ9_init (so_at S 26) a0 S1).bind fun S5 =>
  some ((so_at S 26), S5)
set_option maxHeartbeats 4000000 in
set_option maxRecDepth 100000 in
theorem wJ8_toString {res : Nat} {S' : so_St}  (a0 : Nat)  (S : so_St) (k_a0 : a0 % 64 ∈ [25]) (hf : fJ8_toString a0 S = some (res, S')) : jx_Sp 5 yJ8_toString (ws_ yJ8_toString cJ8_toString 1 (Option.some (Jvm.ClassFile.FieldType.object "java/lang/String"))) [.ref a0] S (.inl (some (.ref res))) S' := by
  refine jx_of (plainFor_of_name (by decide)) (so_le rfl) ?_
  show jg_ (S, S', .inl (some (.ref res))) kJ8_toString 0 [(0, .ref a0)] [] S
  unfold fJ8_toString at hf
  refine jr_new nw_J8_18 dJ8_toString_0 ?_
  refine so_let_e hf (fun S1 hf => ?_)
  refine jr_dup dJ8_toString_3 rfl ?_
  refine jr_aload_n dJ8_toString_4 rfl rfl jv_rr ?_
  obtain ⟨g2, hf⟩ := so_gdE hf
  obtain ⟨S5, h3, hf⟩ := so_b hf
  refine jr_call (st := [.ref (so_at S 26)]) lk_J8_137 (wJ9_init (so_at S 26) a0 S1 (so_atk rfl) k_a0 (so_bigE g2) h3) (jk_r1 (so_n63 (so_atk rfl) rfl)) rfl rfl (so_le rfl) (so_le rfl) dJ8_toString_5 ?_
  obtain ⟨rfl, rfl⟩ := so_e2 hf
  exact jr_aret rfl (Or.inl ⟨_, rfl⟩) jv_rr dJ8_toString_8

/- X9_word -/
abbrev kX9_word : jx_K := (cX9_word, 3, RX9, 6, (Option.some (Jvm.ClassFile.FieldType.object "java/lang/String")), "word", [])
def LX9_word_18 (f0 : Nat) (f1 : Nat) (k75 : so_St → Option (Nat × so_St)) : Nat → Int32 → so_St → Option (Nat × so_St)
  | 0, _, _ => none
  | n + 1, v8, S9 =>
    if (so_I S9 f0 1) ≤ v8 then
    (k75 S9)
    else
    ((so_rk (so_R S9 f0 0) [51]).bind fun p11 =>
    so_gd (so_in v8 (so_l S9 p11)) fun _ =>
    if (so_I S9 p11 v8.toNatClampNeg) < (97 : Int32) then
    (k75 S9)
    else
    ((so_rk (so_R S9 f0 0) [51]).bind fun p15 =>
    so_gd (so_in v8 (so_l S9 p15)) fun _ =>
    if (122 : Int32) < (so_I S9 p15 v8.toNatClampNeg) then
    (k75 S9)
    else
    ((fJ8_length f1 S9).bind fun r20 =>
    if (10 : Int32) ≤ r20 then
    (k75 S9)
    else
    ((so_rk (so_R S9 f0 0) [51]).bind fun p22 =>
    so_gd (so_in v8 (so_l S9 p22)) fun _ =>
    so_b2 (fJ8_append_3 f1 (((so_I S9 p22 v8.toNatClampNeg).toUInt32 % 65536).toInt32) S9) fun r26 S27 =>
    so_gd (decide (r26 % 64 ∈ [25])) fun _ =>
    LX9_word_18 f0 f1 k75 n (v8 + (1 : Int32)) S27))))
set_option maxHeartbeats 4000000 in
set_option maxRecDepth 100000 in
theorem wX9_word_18 {res : Nat} {S' : so_St} {S0 : so_St}   (f0 : Nat) (f1 : Nat)   (k_f0 : f0 % 64 ∈ [2, 5, 13, 19]) (k_f1 : f1 % 64 ∈ [25]) (k75 : so_St → Option (Nat × so_St)) (h75 : ∀ (S29 : so_St), k75 S29 = some (res, S') → jg_ (S0, S', .inl (some (.ref res))) kX9_word 75 [(1, .ref f1)] [] S29) : ∀ (n : Nat) (v8 : Int32) (S9 : so_St), LX9_word_18 f0 f1 k75 n v8 S9 = some (res, S') → jg_ (S0, S', .inl (some (.ref res))) kX9_word 18 [(0, .ref f0), (1, .ref f1), (2, .int v8)] [] S9 := by
  intro n
  induction n with
  | zero =>
    intro v8 S9 hf
    exact so_no hf
  | succ n ih =>
    intro v8 S9 hf
    rw [LX9_word_18] at hf
    refine jr_iload_n dX9_word_18 rfl rfl ?_
    refine jr_aload_n dX9_word_19 rfl rfl jv_rr ?_
    refine jr_getI fl_X9_15_2_5_13_19 k_f0 (so_n26 rfl) dX9_word_20 ?_
    refine jr_icmp_ge (tgt := 75) dX9_word_23 rfl (fun c10 => ?_) (fun c10 => ?_)
    · have hf := so_t c10 hf
      refine jr_sub [1] rfl ?_
      exact h75 S9 hf
    · have hf := so_f c10 hf
      refine jr_aload_n dX9_word_26 rfl rfl jv_rr ?_
      refine jr_getR fl_X9_9_2_5_13_19 k_f0 (so_n26 rfl) dX9_word_27 ?_
      obtain ⟨p11, h12, hf⟩ := so_b hf
      obtain ⟨h12, k_p11⟩ := so_rk_s h12
      refine jr_rf h12 ?_
      refine jr_iload_n dX9_word_30 rfl rfl ?_
      obtain ⟨g13, hf⟩ := so_gdE hf
      refine jr_baload (so_m1 k_p11) (so_inE g13) dX9_word_31 ?_
      refine jr_bipush dX9_word_32 bp_97 ?_
      refine jr_icmp_lt (tgt := 75) dX9_word_34 rfl (fun c14 => ?_) (fun c14 => ?_)
      · have hf := so_t c14 hf
        refine jr_sub [1] rfl ?_
        exact h75 S9 hf
      · have hf := so_f c14 hf
        refine jr_aload_n dX9_word_37 rfl rfl jv_rr ?_
        refine jr_getR fl_X9_9_2_5_13_19 k_f0 (so_n26 rfl) dX9_word_38 ?_
        obtain ⟨p15, h16, hf⟩ := so_b hf
        obtain ⟨h16, k_p15⟩ := so_rk_s h16
        refine jr_rf h16 ?_
        refine jr_iload_n dX9_word_41 rfl rfl ?_
        obtain ⟨g17, hf⟩ := so_gdE hf
        refine jr_baload (so_m1 k_p15) (so_inE g17) dX9_word_42 ?_
        refine jr_bipush dX9_word_43 bp_122 ?_
        refine jr_icmp_gt (tgt := 75) dX9_word_45 rfl (fun c18 => ?_) (fun c18 => ?_)
        · have hf := so_t c18 hf
          refine jr_sub [1] rfl ?_
          exact h75 S9 hf
        · have hf := so_f c18 hf
          refine jr_aload_n dX9_word_48 rfl rfl jv_rr ?_
          obtain ⟨r20, h19, hf⟩ := so_b hf
          refine jr_callM (st := []) lk_X9_29_25 (wJ8_length f1 S9 k_f1 h19) k_f1 rfl rfl rfl (so_le rfl) (so_le rfl) dX9_word_49 ?_
          refine jr_bipush dX9_word_52 bp_10 ?_
          refine jr_icmp_ge (tgt := 75) dX9_word_54 rfl (fun c21 => ?_) (fun c21 => ?_)
          · have hf := so_t c21 hf
            refine jr_sub [1] rfl ?_
            exact h75 S9 hf
          · have hf := so_f c21 hf
            refine jr_aload_n dX9_word_57 rfl rfl jv_rr ?_
            refine jr_aload_n dX9_word_58 rfl rfl jv_rr ?_
            refine jr_getR fl_X9_9_2_5_13_19 k_f0 (so_n26 rfl) dX9_word_59 ?_
            obtain ⟨p22, h23, hf⟩ := so_b hf
            obtain ⟨h23, k_p22⟩ := so_rk_s h23
            refine jr_rf h23 ?_
            refine jr_iload_n dX9_word_62 rfl rfl ?_
            obtain ⟨g24, hf⟩ := so_gdE hf
            refine jr_baload (so_m1 k_p22) (so_inE g24) dX9_word_63 ?_
            refine jr_i2c dX9_word_64 ?_
            obtain ⟨r26, S27, h25, hf⟩ := so_b2E hf
            obtain ⟨g28, hf⟩ := so_gdE hf
            refine jr_callM (st := []) lk_X9_32_25 (wJ8_append_3 f1 (((so_I S9 p22 v8.toNatClampNeg).toUInt32 % 65536).toInt32) S9 k_f1 h25) k_f1 rfl rfl rfl (so_le rfl) (so_le rfl) dX9_word_65 ?_
            refine jr_pop dX9_word_68 rfl ?_
            refine jr_iinc (v := v8 + (1 : Int32)) (lv' := [(0, .ref f0), (1, .ref f1), (2, .int (v8 + (1 : Int32)))]) dX9_word_69 rfl rfl (so_le rfl) rfl ?_
            refine jr_goto (tgt := 18) dX9_word_72 rfl ?_
            exact ih (v8 + (1 : Int32)) S27 hf
def fX9_word (a0 : Nat) (S : so_St) : Option (Nat × so_St) :=
  so_b2 (fX9_sign a0 S) fun r2 S3 =>
  so_let (so_new S3 25 0 4) fun S4 =>
  (fJ8_init (so_at S3 25) S4).bind fun S7 =>
  LX9_word_18 a0 (so_at S3 25) (fun (S30 : so_St) =>
  so_b2 (fJ8_toString (so_at S3 25) S30) fun r32 S33 =>
  so_gd (decide (r32 % 64 ∈ [26])) fun _ =>
  some (r32, S33)) so_N (so_I S7 a0 2) S7
set_option maxHeartbeats 4000000 in
set_option maxRecDepth 100000 in
theorem wX9_word {res : Nat} {S' : so_St}  (a0 : Nat)  (S : so_St) (k_a0 : a0 % 64 ∈ [2, 5, 13, 19]) (hf : fX9_word a0 S = some (res, S')) : jx_Sp 6 yX9_word (ws_ yX9_word cX9_word 3 (Option.some (Jvm.ClassFile.FieldType.object "java/lang/String"))) [.ref a0] S (.inl (some (.ref res))) S' := by
  refine jx_of (plainFor_of_name (by decide)) (so_le rfl) ?_
  show jg_ (S, S', .inl (some (.ref res))) kX9_word 0 [(0, .ref a0)] [] S
  unfold fX9_word at hf
  refine jr_aload_n dX9_word_0 rfl rfl jv_rr ?_
  obtain ⟨r2, S3, h1, hf⟩ := so_b2E hf
  refine jr_callM (st := []) lk_X9_22_2_5_13_19 (wX9_sign a0 S k_a0 h1) k_a0 rfl rfl rfl (so_le rfl) (so_le rfl) dX9_word_1 ?_
  refine jr_pop dX9_word_4 rfl ?_
  refine jr_new nw_X9_26 dX9_word_5 ?_
  refine so_let_e hf (fun S4 hf => ?_)
  refine jr_dup dX9_word_8 rfl ?_
  obtain ⟨S7, h5, hf⟩ := so_b hf
  refine jr_call (st := [.ref (so_at S3 25)]) lk_X9_28 (wJ8_init (so_at S3 25) S4 (so_atk rfl) h5) (jk_r1 (so_n63 (so_atk rfl) rfl)) rfl rfl (so_le rfl) (so_le rfl) dX9_word_9 ?_
  refine jr_astore_n (lv' := [(0, .ref a0), (1, .ref (so_at S3 25))]) dX9_word_12 rfl (so_le rfl) jv_rr rfl ?_
  refine jr_aload_n dX9_word_13 rfl rfl jv_rr ?_
  refine jr_getI fl_X9_19_2_5_13_19 k_a0 (so_n26 rfl) dX9_word_14 ?_
  refine jr_istore_n (lv' := [(0, .ref a0), (1, .ref (so_at S3 25)), (2, .int (so_I S7 a0 2))]) dX9_word_17 rfl (so_le rfl) rfl ?_
  refine wX9_word_18 a0 (so_at S3 25) k_a0 (so_atk rfl) _ (fun S30 hf => ?_) so_N (so_I S7 a0 2) S7 hf
  refine jr_aload_n dX9_word_75 rfl rfl jv_rr ?_
  obtain ⟨r32, S33, h31, hf⟩ := so_b2E hf
  obtain ⟨g34, hf⟩ := so_gdE hf
  refine jr_callM (st := []) lk_X9_36_25 (wJ8_toString (so_at S3 25) S30 (so_atk rfl) h31) (so_atk rfl) rfl rfl rfl (so_le rfl) (so_le rfl) dX9_word_76 ?_
  obtain ⟨rfl, rfl⟩ := so_e2 hf
  exact jr_aret rfl (Or.inl ⟨_, rfl⟩) jv_rr dX9_word_79
