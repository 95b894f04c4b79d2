/-! printed: functions and walks -/
set_option maxRecDepth 100000
set_option linter.unusedVariables false
/- X0_when -/
abbrev kX0_when : jx_K := (cX0_when, 5, RX0, 1207, (Option.some Jvm.ClassFile.FieldType.int), "when", tableOf [(0, 10, 13, 31), (0, 10, 17, 13)])
def fX0_when (a0 : Nat) (a1 : Int32) (a2 : Int32) (a3 : Nat) (S : so_St) : Option (Int32 × so_St) :=
  so_b3 (fX1_when a0 a1 a2 S) (fun r1 S2 =>
  so_gd (so_in (0 : Int32) (so_l S2 a3)) fun _ =>
  so_let (so_sL S2 a3 (0 : Int32).toNatClampNeg r1.toInt64) fun S9 =>
  some ((0 : Int32), S9))
  (fun x3 S4 =>
  if x3 % 64 = 27 then
  (some ((2 : Int32), S4))
  else
  if x3 % 64 = 28 then
  (some ((1 : Int32), S4))
  else
  none)
set_option maxHeartbeats 4000000 in
set_option maxRecDepth 100000 in
theorem wX0_when {res : Int32} {S' : so_St}  (a0 : Nat) (a1 : Int32) (a2 : Int32) (a3 : Nat)  (S : so_St) (k_a0 : a0 % 64 ∈ [0]) (k_a3 : a3 % 64 ∈ [53]) (hf : fX0_when a0 a1 a2 a3 S = some (res, S')) : jx_Sp 1207 yX0_when (wsW_ yX0_when cX0_when 5 (Option.some Jvm.ClassFile.FieldType.int) [(0, 10, 13, 31), (0, 10, 17, 13)]) [.ref a0, .int a1, .int a2, .ref a3] S (.inl (some (.int res))) S' := by
  refine jx_ofW (by decide) (so_le rfl) ?_
  show jg_ (S, S', .inl (some (.int res))) kX0_when 0 [(0, .ref a0), (1, .int a1), (2, .int a2), (3, .ref a3)] [] S
  unfold fX0_when at hf
  refine jr_aload_n dX0_when_0 rfl rfl jv_rr ?_
  refine jr_iconst dX0_when_1 ic_0 ?_
  refine jr_aload_n dX0_when_2 rfl rfl jv_rr ?_
  refine jr_iload_n dX0_when_3 rfl rfl ?_
  refine jr_iload_n dX0_when_4 rfl rfl ?_
  rcases so_b3E hf with ⟨r1, S2, h5, hf⟩ | ⟨x3, S4, h5, hf⟩
  · refine jr_callM (st := [.int (0 : Int32), .ref a3]) lk_X0_50_0 (wX1_when a0 a1 a2 S k_a0 h5) k_a0 rfl rfl rfl (so_le rfl) (so_le rfl) dX0_when_5 ?_
    refine jr_i2l dX0_when_8 ?_
    obtain ⟨g8, hf⟩ := so_gdE hf
    refine jr_lastore (so_m1 k_a3) (so_inE g8) dX0_when_9 ?_
    refine so_let_e hf (fun S9 hf => ?_)
    refine jr_goto (tgt := 21) dX0_when_10 rfl ?_
    refine jr_iconst dX0_when_21 ic_0 ?_
    obtain ⟨rfl, rfl⟩ := so_e2 hf
    exact jr_iret rfl rfl dX0_when_22
  · refine jr_callMX (st := [.int (0 : Int32), .ref a3]) lk_X0_50_0 (wX1_when a0 a1 a2 S k_a0 h5) k_a0 rfl rfl rfl (so_le rfl) (so_le rfl) dX0_when_5 ?_
    by_cases c6 : x3 % 64 = 27
    · have hf := so_t c6 hf
      refine jr_catch (by rw [c6]; decide) (by rw [c6]; decide) [(⟨0, 10, 13, 31⟩ : ExceptionTableEntry)] ⟨0, 10, 17, 13⟩ [] rfl (List.forall_mem_cons.mpr ⟨Or.inr ⟨by decide, c6, q1698⟩, fun _ h => by cases h⟩) rfl (by decide) q863 (by rw [c6]; exact q181) ?_
      refine jr_astore (lv' := [(0, .ref a0), (1, .int a1), (2, .int a2), (3, .ref a3), (4, .ref x3)]) dX0_when_17 (so_le rfl) jv_rr rfl ?_
      refine jr_iconst dX0_when_19 ic_2 ?_
      obtain ⟨rfl, rfl⟩ := so_e2 hf
      exact jr_iret rfl rfl dX0_when_20
    · have hf := so_f c6 hf
      by_cases c7 : x3 % 64 = 28
      · have hf := so_t c7 hf
        refine jr_catch (by rw [c7]; decide) (by rw [c7]; decide) [] ⟨0, 10, 13, 31⟩ [(⟨0, 10, 17, 13⟩ : ExceptionTableEntry)] rfl (fun _ h => by cases h) rfl (by decide) q1698 (by rw [c7]; exact q1713) ?_
        refine jr_astore (lv' := [(0, .ref a0), (1, .int a1), (2, .int a2), (3, .ref a3), (4, .ref x3)]) dX0_when_13 (so_le rfl) jv_rr rfl ?_
        refine jr_iconst dX0_when_15 ic_1 ?_
        obtain ⟨rfl, rfl⟩ := so_e2 hf
        exact jr_iret rfl rfl dX0_when_16
      · have hf := so_f c7 hf
        exact so_no hf

/- X1_muffle -/
abbrev kX1_muffle : jx_K := (cX1_muffle, 3, RX1, 1203, (Option.some Jvm.ClassFile.FieldType.int), "muffle", [])
def LX1_muffle_7 (f0 : Nat) (f1 : Int32) : Nat → Int32 → so_St → Option ((Int32 ⊕ Nat) × so_St)
  | 0, _, _ => none
  | n + 1, v7, S8 =>
    if (9 : Int32) < v7 then
    (some (.inl (-1 : Int32), S8))
    else
    ((so_rk (so_R S8 f0 5) [22]).bind fun p10 =>
    (so_rk (so_R S8 p10 0) [50]).bind fun p12 =>
    so_gd (so_in f1 (so_l S8 p12)) fun _ =>
    so_j (κ := so_St → Option ((Int32 ⊕ Nat) × so_St)) (ρ := Option ((Int32 ⊕ Nat) × so_St)) (fun (S15 : so_St) =>
    LX1_muffle_7 f0 f1 n (v7 + (1 : Int32)) S15)
    (fun J16 =>
    if (so_I S8 p12 f1.toNatClampNeg) = (-1 : Int32) then
    (J16 S8)
    else
    ((so_rk (so_R S8 f0 5) [22]).bind fun p18 =>
    so_b2 (fX7_forceWith p18 f1 v7 S8) fun r21 S22 =>
    if r21 = (0 : Int32) then
    (some (.inl v7, S22))
    else
    (J16 S22))))
set_option maxHeartbeats 4000000 in
set_option maxRecDepth 100000 in
theorem wX1_muffle_7 {res : Int32 ⊕ Nat} {S' : so_St} {S0 : so_St}   (f0 : Nat) (f1 : Int32)   (k_f0 : f0 % 64 ∈ [0]) : ∀ (n : Nat) (v7 : Int32) (S8 : so_St), LX1_muffle_7 f0 f1 n v7 S8 = some (res, S') → jg_ (S0, S', so_oi res) kX1_muffle 7 [(0, .ref f0), (1, .int f1), (2, .int v7)] [] S8 := by
  intro n
  induction n with
  | zero =>
    intro v7 S8 hf
    exact so_no hf
  | succ n ih =>
    intro v7 S8 hf
    rw [LX1_muffle_7] at hf
    refine jr_iload_n dX1_muffle_7 rfl rfl ?_
    refine jr_bipush dX1_muffle_8 bp_9 ?_
    refine jr_icmp_gt (tgt := 46) dX1_muffle_10 rfl (fun c9 => ?_) (fun c9 => ?_)
    · have hf := so_t c9 hf
      refine jr_iconst dX1_muffle_46 ic_m1 ?_
      obtain ⟨rfl, rfl⟩ := so_e2 hf
      exact jr_iret rfl rfl dX1_muffle_47
    · have hf := so_f c9 hf
      refine jr_aload_n dX1_muffle_13 rfl rfl jv_rr ?_
      refine jr_getR fl_X1_49_0 k_f0 (so_n26 rfl) dX1_muffle_14 ?_
      obtain ⟨p10, h11, hf⟩ := so_b hf
      obtain ⟨h11, k_p10⟩ := so_rk_s h11
      refine jr_rf h11 ?_
      refine jr_getR fl_X1_239_22 k_p10 (so_n26 rfl) dX1_muffle_17 ?_
      obtain ⟨p12, h13, hf⟩ := so_b hf
      obtain ⟨h13, k_p12⟩ := so_rk_s h13
      refine jr_rf h13 ?_
      refine jr_iload_n dX1_muffle_20 rfl rfl ?_
      obtain ⟨g14, hf⟩ := so_gdE hf
      refine jr_iaload (so_m1 k_p12) (so_inE g14) dX1_muffle_21 ?_
      refine jr_iconst dX1_muffle_22 ic_m1 ?_
      refine so_jE hf (fun J => ∀ (S15 : so_St), J S15 = some (res, S') → jg_ (S0, S', so_oi res) kX1_muffle 40 [(0, .ref f0), (1, .int f1), (2, .int v7)] [] S15) (fun S15 hf => ?_) (fun J16 hJ16 hf => ?_)
      · refine jr_iinc (v := v7 + (1 : Int32)) (lv' := [(0, .ref f0), (1, .int f1), (2, .int (v7 + (1 : Int32)))]) dX1_muffle_40 rfl rfl (so_le rfl) rfl ?_
        refine jr_goto (tgt := 7) dX1_muffle_43 rfl ?_
        exact ih (v7 + (1 : Int32)) S15 hf
      · refine jr_icmp_eq (tgt := 40) dX1_muffle_23 rfl (fun c17 => ?_) (fun c17 => ?_)
        · have hf := so_t c17 hf
          exact hJ16 S8 hf
        · have hf := so_f c17 hf
          refine jr_aload_n dX1_muffle_26 rfl rfl jv_rr ?_
          refine jr_getR fl_X1_49_0 k_f0 (so_n26 rfl) dX1_muffle_27 ?_
          obtain ⟨p18, h19, hf⟩ := so_b hf
          obtain ⟨h19, k_p18⟩ := so_rk_s h19
          refine jr_rf h19 ?_
          refine jr_iload_n dX1_muffle_30 rfl rfl ?_
          refine jr_iload_n dX1_muffle_31 rfl rfl ?_
          obtain ⟨r21, S22, h20, hf⟩ := so_b2E hf
          refine jr_callM (st := []) lk_X1_336_22 (wX7_forceWith p18 f1 v7 S8 k_p18 h20) k_p18 rfl rfl rfl (so_le rfl) (so_le rfl) dX1_muffle_32 ?_
          refine jr_if_ne (tgt := 40) dX1_muffle_35 rfl (fun c23 => ?_) (fun c23 => ?_)
          · have hf := so_f c23 hf
            exact hJ16 S22 hf
          · have hf := so_t c23 hf
            refine jr_iload_n dX1_muffle_38 rfl rfl ?_
            obtain ⟨rfl, rfl⟩ := so_e2 hf
            exact jr_iret rfl rfl dX1_muffle_39
def fX1_muffle (a0 : Nat) (a1 : Int32) (S : so_St) : Option ((Int32 ⊕ Nat) × so_St) :=
  so_b3 (fX1_needPiano a0 a1 S) (fun r1 S2 =>
  LX1_muffle_7 a0 a1 so_N (0 : Int32) S2)
  (fun x3 S4 =>
  so_gd (decide (x3 % 64 ∈ [28])) fun _ =>
  some (.inr x3, S4))
set_option maxHeartbeats 4000000 in
set_option maxRecDepth 100000 in
theorem wX1_muffle {res : Int32 ⊕ Nat} {S' : so_St}  (a0 : Nat) (a1 : Int32)  (S : so_St) (k_a0 : a0 % 64 ∈ [0]) (hf : fX1_muffle a0 a1 S = some (res, S')) : jx_Sp 1203 yX1_muffle (ws_ yX1_muffle cX1_muffle 3 (Option.some Jvm.ClassFile.FieldType.int)) [.ref a0, .int a1] S (so_oi res) S' := by
  refine jx_of (plainFor_of_name (by decide)) (so_le rfl) ?_
  show jg_ (S, S', so_oi res) kX1_muffle 0 [(0, .ref a0), (1, .int a1)] [] S
  unfold fX1_muffle at hf
  refine jr_aload_n dX1_muffle_0 rfl rfl jv_rr ?_
  refine jr_iload_n dX1_muffle_1 rfl rfl ?_
  rcases so_b3E hf with ⟨r1, S2, h5, hf⟩ | ⟨x3, S4, h5, hf⟩
  · refine jr_callM (st := []) lk_X1_305_0 (wX1_needPiano a0 a1 S k_a0 h5) k_a0 rfl rfl rfl (so_le rfl) (so_le rfl) dX1_muffle_2 ?_
    refine jr_iconst dX1_muffle_5 ic_0 ?_
    refine jr_istore_n (lv' := [(0, .ref a0), (1, .int a1), (2, .int (0 : Int32))]) dX1_muffle_6 rfl (so_le rfl) rfl ?_
    refine wX1_muffle_7 a0 a1 k_a0 so_N (0 : Int32) S2 hf
  · refine jr_callMX (st := []) lk_X1_305_0 (wX1_needPiano a0 a1 S k_a0 h5) k_a0 rfl rfl rfl (so_le rfl) (so_le rfl) dX1_muffle_2 ?_
    obtain ⟨g6, hf⟩ := so_gdE hf
    obtain ⟨rfl, rfl⟩ := so_e2 hf
    exact jr_out (so_l29 (of_decide_eq_true g6) rfl).1 (so_l29 (of_decide_eq_true g6) rfl).2 rfl

/- X0_muffle -/
abbrev kX0_muffle : jx_K := (cX0_muffle, 4, RX0, 1204, (Option.some Jvm.ClassFile.FieldType.int), "muffle", tableOf [(0, 9, 12, 31)])
def fX0_muffle (a0 : Nat) (a1 : Int32) (a2 : Nat) (S : so_St) : Option (Int32 × so_St) :=
  so_b3 (fX1_muffle a0 a1 S) (fun r1 S2 =>
  so_gd (so_in (0 : Int32) (so_l S2 a2)) fun _ =>
  so_let (so_sL S2 a2 (0 : Int32).toNatClampNeg r1.toInt64) fun S8 =>
  some ((0 : Int32), S8))
  (fun x3 S4 =>
  if x3 % 64 = 28 then
  (some ((1 : Int32), S4))
  else
  none)
set_option maxHeartbeats 4000000 in
set_option maxRecDepth 100000 in
theorem wX0_muffle {res : Int32} {S' : so_St}  (a0 : Nat) (a1 : Int32) (a2 : Nat)  (S : so_St) (k_a0 : a0 % 64 ∈ [0]) (k_a2 : a2 % 64 ∈ [53]) (hf : fX0_muffle a0 a1 a2 S = some (res, S')) : jx_Sp 1204 yX0_muffle (wsW_ yX0_muffle cX0_muffle 4 (Option.some Jvm.ClassFile.FieldType.int) [(0, 9, 12, 31)]) [.ref a0, .int a1, .ref a2] S (.inl (some (.int res))) S' := by
  refine jx_ofW (by decide) (so_le rfl) ?_
  show jg_ (S, S', .inl (some (.int res))) kX0_muffle 0 [(0, .ref a0), (1, .int a1), (2, .ref a2)] [] S
  unfold fX0_muffle at hf
  refine jr_aload_n dX0_muffle_0 rfl rfl jv_rr ?_
  refine jr_iconst dX0_muffle_1 ic_0 ?_
  refine jr_aload_n dX0_muffle_2 rfl rfl jv_rr ?_
  refine jr_iload_n dX0_muffle_3 rfl rfl ?_
  rcases so_b3E hf with ⟨r1, S2, h5, hf⟩ | ⟨x3, S4, h5, hf⟩
  · refine jr_callM (st := [.int (0 : Int32), .ref a2]) lk_X0_53_0 (wX1_muffle a0 a1 S k_a0 h5) k_a0 rfl rfl rfl (so_le rfl) (so_le rfl) dX0_muffle_4 ?_
    refine jr_i2l dX0_muffle_7 ?_
    obtain ⟨g7, hf⟩ := so_gdE hf
    refine jr_lastore (so_m1 k_a2) (so_inE g7) dX0_muffle_8 ?_
    refine so_let_e hf (fun S8 hf => ?_)
    refine jr_goto (tgt := 15) dX0_muffle_9 rfl ?_
    refine jr_iconst dX0_muffle_15 ic_0 ?_
    obtain ⟨rfl, rfl⟩ := so_e2 hf
    exact jr_iret rfl rfl dX0_muffle_16
  · refine jr_callMX (st := [.int (0 : Int32), .ref a2]) lk_X0_53_0 (wX1_muffle a0 a1 S k_a0 h5) k_a0 rfl rfl rfl (so_le rfl) (so_le rfl) dX0_muffle_4 ?_
    by_cases c6 : x3 % 64 = 28
    · have hf := so_t c6 hf
      refine jr_catch (by rw [c6]; decide) (by rw [c6]; decide) [] ⟨0, 9, 12, 31⟩ [] rfl (fun _ h => by cases h) rfl (by decide) q1698 (by rw [c6]; exact q1713) ?_
      refine jr_astore_n (lv' := [(0, .ref a0), (1, .int a1), (2, .ref a2), (3, .ref x3)]) dX0_muffle_12 rfl (so_le rfl) jv_rr rfl ?_
      refine jr_iconst dX0_muffle_13 ic_1 ?_
      obtain ⟨rfl, rfl⟩ := so_e2 hf
      exact jr_iret rfl rfl dX0_muffle_14
    · have hf := so_f c6 hf
      exact so_no hf

/- X1_isPeace -/
abbrev kX1_isPeace : jx_K := (cX1_isPeace, 4, RX1, 4, (Option.some Jvm.ClassFile.FieldType.boolean), "isPeace", [])
def LX1_isPeace_2 (f0 : Nat) (f1 : Int32) (f2 : Int32) (S : so_St) : Nat → Int32 → Option Int32
  | 0, _ => none
  | n + 1, v1 =>
    if f1 ≤ v1 then
    (some (1 : Int32))
    else
    ((so_rk (so_R S f0 19) [50]).bind fun p3 =>
    so_gd (so_in v1 (so_l S p3)) fun _ =>
    if (so_I S p3 v1.toNatClampNeg) = f2 then
    (some (0 : Int32))
    else
    ((so_rk (so_R S f0 0) [1]).bind fun p7 =>
    (so_rk (so_R S p7 2) [50]).bind fun p9 =>
    so_gd (so_in f2 (so_l S p9)) fun _ =>
    (so_rk (so_R S f0 19) [50]).bind fun p12 =>
    so_gd (so_in v1 (so_l S p12)) fun _ =>
    so_j (κ := Unit → Option Int32) (ρ := Option Int32) (fun (_u : Unit) =>
    LX1_isPeace_2 f0 f1 f2 S n (v1 + (1 : Int32)))
    (fun J15 =>
    if (fX1_has (so_I S p9 f2.toNatClampNeg) (so_I S p12 v1.toNatClampNeg)) = (0 : Int32) then
    (J15 ())
    else
    ((fX1_pianoOf f0 v1 S).bind fun r18 =>
    so_gd (decide (r18 % 64 ∈ [4])) fun _ =>
    (fX1_pianoOf f0 f1 S).bind fun r21 =>
    so_gd (decide (r21 % 64 ∈ [4])) fun _ =>
    if (so_I S r18 0) = (so_I S r21 0) then
    (J15 ())
    else
    (some (0 : Int32))))))
set_option maxHeartbeats 4000000 in
set_option maxRecDepth 100000 in
theorem wX1_isPeace_2 {res : Int32}   (f0 : Nat) (f1 : Int32) (f2 : Int32)  (S : so_St) (k_f0 : f0 % 64 ∈ [0]) : ∀ (n : Nat) (v1 : Int32), LX1_isPeace_2 f0 f1 f2 S n v1 = some res → jg_ (S, S, .inl (some (.int res))) kX1_isPeace 2 [(0, .ref f0), (1, .int f1), (2, .int f2), (3, .int v1)] [] S := by
  intro n
  induction n with
  | zero =>
    intro v1 hf
    exact so_no hf
  | succ n ih =>
    intro v1 hf
    rw [LX1_isPeace_2] at hf
    refine jr_iload_n dX1_isPeace_2 rfl rfl ?_
    refine jr_iload_n dX1_isPeace_3 rfl rfl ?_
    refine jr_icmp_ge (tgt := 65) dX1_isPeace_4 rfl (fun c2 => ?_) (fun c2 => ?_)
    · have hf := so_t c2 hf
      refine jr_iconst dX1_isPeace_65 ic_1 ?_
      obtain rfl := so_e1 hf
      exact jr_iret rfl rfl dX1_isPeace_66
    · have hf := so_f c2 hf
      refine jr_aload_n dX1_isPeace_7 rfl rfl jv_rr ?_
      refine jr_getR fl_X1_77_0 k_f0 (so_n26 rfl) dX1_isPeace_8 ?_
      obtain ⟨p3, h4, hf⟩ := so_b hf
      obtain ⟨h4, k_p3⟩ := so_rk_s h4
      refine jr_rf h4 ?_
      refine jr_iload_n dX1_isPeace_11 rfl rfl ?_
      obtain ⟨g5, hf⟩ := so_gdE hf
      refine jr_iaload (so_m1 k_p3) (so_inE g5) dX1_isPeace_12 ?_
      refine jr_iload_n dX1_isPeace_13 rfl rfl ?_
      refine jr_icmp_eq (tgt := 57) dX1_isPeace_14 rfl (fun c6 => ?_) (fun c6 => ?_)
      · have hf := so_t c6 hf
        refine jr_iconst dX1_isPeace_57 ic_0 ?_
        obtain rfl := so_e1 hf
        exact jr_iret rfl rfl dX1_isPeace_58
      · have hf := so_f c6 hf
        refine jr_aload_n dX1_isPeace_17 rfl rfl jv_rr ?_
        refine jr_getR fl_X1_22_0 k_f0 (so_n26 rfl) dX1_isPeace_18 ?_
        obtain ⟨p7, h8, hf⟩ := so_b hf
        obtain ⟨h8, k_p7⟩ := so_rk_s h8
        refine jr_rf h8 ?_
        refine jr_getR fl_X1_283_1 k_p7 (so_n26 rfl) dX1_isPeace_21 ?_
        obtain ⟨p9, h10, hf⟩ := so_b hf
        obtain ⟨h10, k_p9⟩ := so_rk_s h10
        refine jr_rf h10 ?_
        refine jr_iload_n dX1_isPeace_24 rfl rfl ?_
        obtain ⟨g11, hf⟩ := so_gdE hf
        refine jr_iaload (so_m1 k_p9) (so_inE g11) dX1_isPeace_25 ?_
        refine jr_aload_n dX1_isPeace_26 rfl rfl jv_rr ?_
        refine jr_getR fl_X1_77_0 k_f0 (so_n26 rfl) dX1_isPeace_27 ?_
        obtain ⟨p12, h13, hf⟩ := so_b hf
        obtain ⟨h13, k_p12⟩ := so_rk_s h13
        refine jr_rf h13 ?_
        refine jr_iload_n dX1_isPeace_30 rfl rfl ?_
        obtain ⟨g14, hf⟩ := so_gdE hf
        refine jr_iaload (so_m1 k_p12) (so_inE g14) dX1_isPeace_31 ?_
        refine jr_call (st := []) lk_X1_349 (wX1_has (so_I S p9 f2.toNatClampNeg) (so_I S p12 v1.toNatClampNeg) S rfl) jk_r0 rfl rfl (so_le rfl) (so_le rfl) dX1_isPeace_32 ?_
        refine so_jE hf (fun J => ∀ (u0 : Unit), J u0 = some res → jg_ (S, S, .inl (some (.int res))) kX1_isPeace 59 [(0, .ref f0), (1, .int f1), (2, .int f2), (3, .int v1)] [] S) (fun _u hf => ?_) (fun J15 hJ15 hf => ?_)
        · refine jr_iinc (v := v1 + (1 : Int32)) (lv' := [(0, .ref f0), (1, .int f1), (2, .int f2), (3, .int (v1 + (1 : Int32)))]) dX1_isPeace_59 rfl rfl (so_le rfl) rfl ?_
          refine jr_goto (tgt := 2) dX1_isPeace_62 rfl ?_
          exact ih (v1 + (1 : Int32)) hf
        · refine jr_if_eq (tgt := 59) dX1_isPeace_35 rfl (fun c16 => ?_) (fun c16 => ?_)
          · have hf := so_t c16 hf
            exact hJ15 () hf
          · have hf := so_f c16 hf
            refine jr_aload_n dX1_isPeace_38 rfl rfl jv_rr ?_
            refine jr_iload_n dX1_isPeace_39 rfl rfl ?_
            obtain ⟨r18, h17, hf⟩ := so_b hf
            obtain ⟨g19, hf⟩ := so_gdE hf
            refine jr_callM (st := []) lk_X1_308_0 (wX1_pianoOf f0 v1 S k_f0 h17) k_f0 rfl rfl rfl (so_le rfl) (so_le rfl) dX1_isPeace_40 ?_
            refine jr_getI fl_X1_312_4 (of_decide_eq_true g19) (so_n26 rfl) dX1_isPeace_43 ?_
            refine jr_aload_n dX1_isPeace_46 rfl rfl jv_rr ?_
            refine jr_iload_n dX1_isPeace_47 rfl rfl ?_
            obtain ⟨r21, h20, hf⟩ := so_b hf
            obtain ⟨g22, hf⟩ := so_gdE hf
            refine jr_callM (st := [.int (so_I S r18 0)]) lk_X1_308_0 (wX1_pianoOf f0 f1 S k_f0 h20) k_f0 rfl rfl rfl (so_le rfl) (so_le rfl) dX1_isPeace_48 ?_
            refine jr_getI fl_X1_312_4 (of_decide_eq_true g22) (so_n26 rfl) dX1_isPeace_51 ?_
            refine jr_icmp_eq (tgt := 59) dX1_isPeace_54 rfl (fun c23 => ?_) (fun c23 => ?_)
            · have hf := so_t c23 hf
              exact hJ15 () hf
            · have hf := so_f c23 hf
              refine jr_iconst dX1_isPeace_57 ic_0 ?_
              obtain rfl := so_e1 hf
              exact jr_iret rfl rfl dX1_isPeace_58
def fX1_isPeace (a0 : Nat) (a1 : Int32) (a2 : Int32) (S : so_St) : Option Int32 :=
  LX1_isPeace_2 a0 a1 a2 S so_N (0 : Int32)
set_option maxHeartbeats 4000000 in
set_option maxRecDepth 100000 in
theorem wX1_isPeace {res : Int32}  (a0 : Nat) (a1 : Int32) (a2 : Int32)  (S : so_St) (k_a0 : a0 % 64 ∈ [0]) (hf : fX1_isPeace a0 a1 a2 S = some res) : jx_Sp 4 yX1_isPeace (ws_ yX1_isPeace cX1_isPeace 4 (Option.some Jvm.ClassFile.FieldType.boolean)) [.ref a0, .int a1, .int a2] S (.inl (some (.int res))) S := by
  refine jx_of (plainFor_of_name (by decide)) (so_le rfl) ?_
  show jg_ (S, S, .inl (some (.int res))) kX1_isPeace 0 [(0, .ref a0), (1, .int a1), (2, .int a2)] [] S
  unfold fX1_isPeace at hf
  refine jr_iconst dX1_isPeace_0 ic_0 ?_
  refine jr_istore_n (lv' := [(0, .ref a0), (1, .int a1), (2, .int a2), (3, .int (0 : Int32))]) dX1_isPeace_1 rfl (so_le rfl) rfl ?_
  refine wX1_isPeace_2 a0 a1 a2 S k_a0 so_N (0 : Int32) hf

/- X1_placesOn -/
abbrev kX1_placesOn (d0 : Nat) : jx_K := (cX1_placesOn, 4, RX1, d0 + 5, (Option.none : Option Jvm.ClassFile.FieldType), "placesOn", [])
def LX1_placesOn_47 (rec : Nat → Int32 → Int32 → so_St → Option so_St) (f0 : Nat) (f1 : Int32) (f2 : Int32) : Nat → Int32 → so_St → Option so_St
  | 0, _, _ => none
  | n + 1, v7, S8 =>
    (so_rk (so_R S8 f0 0) [1]).bind fun p9 =>
    if (so_I S8 p9 6) ≤ v7 then
    (some S8)
    else
    ((fX1_isPeace f0 f1 v7 S8).bind fun r13 =>
    so_j (κ := so_St → Option so_St) (ρ := Option so_St) (fun (S14 : so_St) =>
    LX1_placesOn_47 rec f0 f1 f2 n (v7 + (1 : Int32)) S14)
    (fun J15 =>
    if r13 = (0 : Int32) then
    (J15 S8)
    else
    ((so_rk (so_R S8 f0 19) [50]).bind fun p17 =>
    so_gd (so_in f1 (so_l S8 p17)) fun _ =>
    so_let (so_sI S8 p17 f1.toNatClampNeg v7) fun S20 =>
    (so_rk (so_R S20 f0 0) [1]).bind fun p21 =>
    (so_rk (so_R S20 p21 1) [50]).bind fun p23 =>
    so_gd (so_in v7 (so_l S20 p23)) fun _ =>
    (fX1_pianoOf f0 f1 S20).bind fun r27 =>
    so_gd (decide (r27 % 64 ∈ [4])) fun _ =>
    so_j (κ := Int32 → Option so_St) (ρ := Option so_St) (fun (v29 : Int32) =>
    (rec f0 (f1 + (1 : Int32)) (f2 + v29) S20).bind fun S33 =>
    J15 S33)
    (fun J30 =>
    if (so_I S20 p23 v7.toNatClampNeg) = (so_I S20 r27 0) then
    (J30 (1 : Int32))
    else
    (J30 (0 : Int32))))))
set_option maxHeartbeats 4000000 in
set_option maxRecDepth 100000 in
theorem wX1_placesOn_47 {d0 : Nat} {S' : so_St} {S0 : so_St}  {rec : Nat → Int32 → Int32 → so_St → Option so_St} (hrec : ∀ (a0 : Nat) (a1 : Int32) (a2 : Int32) (S : so_St), a0 % 64 ∈ [0] → ∀ {S' : so_St}, rec a0 a1 a2 S = some S' → jx_Sp d0 yX1_placesOn (ws_ yX1_placesOn cX1_placesOn 4 (Option.none : Option Jvm.ClassFile.FieldType)) [.ref a0, .int a1, .int a2] S (.inl none) S') (f0 : Nat) (f1 : Int32) (f2 : Int32)   (k_f0 : f0 % 64 ∈ [0]) : ∀ (n : Nat) (v7 : Int32) (S8 : so_St), LX1_placesOn_47 rec f0 f1 f2 n v7 S8 = some S' → jg_ (S0, S', .inl none) (kX1_placesOn d0) 47 [(0, .ref f0), (1, .int f1), (2, .int f2), (3, .int v7)] [] S8 := by
  intro n
  induction n with
  | zero =>
    intro v7 S8 hf
    exact so_no hf
  | succ n ih =>
    intro v7 S8 hf
    rw [LX1_placesOn_47] at hf
    refine jr_iload_n dX1_placesOn_47 rfl rfl ?_
    refine jr_aload_n dX1_placesOn_48 rfl rfl jv_rr ?_
    refine jr_getR fl_X1_22_0 k_f0 (so_n26 rfl) dX1_placesOn_49 ?_
    obtain ⟨p9, h10, hf⟩ := so_b hf
    obtain ⟨h10, k_p9⟩ := so_rk_s h10
    refine jr_rf h10 ?_
    refine jr_getI fl_X1_149_1 k_p9 (so_n26 rfl) dX1_placesOn_52 ?_
    refine jr_icmp_ge (tgt := 117) dX1_placesOn_55 rfl (fun c11 => ?_) (fun c11 => ?_)
    · have hf := so_t c11 hf
      obtain rfl := so_e1 hf
      exact jr_vret rfl dX1_placesOn_117
    · have hf := so_f c11 hf
      refine jr_aload_n dX1_placesOn_58 rfl rfl jv_rr ?_
      refine jr_iload_n dX1_placesOn_59 rfl rfl ?_
      refine jr_iload_n dX1_placesOn_60 rfl rfl ?_
      obtain ⟨r13, h12, hf⟩ := so_b hf
      refine jr_callM (st := []) lk_X1_355_0 (wX1_isPeace f0 f1 v7 S8 k_f0 h12) k_f0 rfl rfl rfl (so_le rfl) (show 4 + 1 ≤ d0 + 5 by omega) dX1_placesOn_61 ?_
      refine so_jE hf (fun J => ∀ (S14 : so_St), J S14 = some S' → jg_ (S0, S', .inl none) (kX1_placesOn d0) 111 [(0, .ref f0), (1, .int f1), (2, .int f2), (3, .int v7)] [] S14) (fun S14 hf => ?_) (fun J15 hJ15 hf => ?_)
      · refine jr_iinc (v := v7 + (1 : Int32)) (lv' := [(0, .ref f0), (1, .int f1), (2, .int f2), (3, .int (v7 + (1 : Int32)))]) dX1_placesOn_111 rfl rfl (so_le rfl) rfl ?_
        refine jr_goto (tgt := 47) dX1_placesOn_114 rfl ?_
        exact ih (v7 + (1 : Int32)) S14 hf
      · refine jr_if_ne (tgt := 70) dX1_placesOn_64 rfl (fun c16 => ?_) (fun c16 => ?_)
        · have hf := so_f c16 hf
          refine jr_aload_n dX1_placesOn_70 rfl rfl jv_rr ?_
          refine jr_getR fl_X1_77_0 k_f0 (so_n26 rfl) dX1_placesOn_71 ?_
          obtain ⟨p17, h18, hf⟩ := so_b hf
          obtain ⟨h18, k_p17⟩ := so_rk_s h18
          refine jr_rf h18 ?_
          refine jr_iload_n dX1_placesOn_74 rfl rfl ?_
          refine jr_iload_n dX1_placesOn_75 rfl rfl ?_
          obtain ⟨g19, hf⟩ := so_gdE hf
          refine jr_iastore (so_m1 k_p17) (so_inE g19) dX1_placesOn_76 ?_
          refine so_let_e hf (fun S20 hf => ?_)
          refine jr_aload_n dX1_placesOn_77 rfl rfl jv_rr ?_
          refine jr_iload_n dX1_placesOn_78 rfl rfl ?_
          refine jr_iconst dX1_placesOn_79 ic_1 ?_
          refine jr_iadd dX1_placesOn_80 ?_
          refine jr_iload_n dX1_placesOn_81 rfl rfl ?_
          refine jr_aload_n dX1_placesOn_82 rfl rfl jv_rr ?_
          refine jr_getR fl_X1_22_0 k_f0 (so_n26 rfl) dX1_placesOn_83 ?_
          obtain ⟨p21, h22, hf⟩ := so_b hf
          obtain ⟨h22, k_p21⟩ := so_rk_s h22
          refine jr_rf h22 ?_
          refine jr_getR fl_X1_262_1 k_p21 (so_n26 rfl) dX1_placesOn_86 ?_
          obtain ⟨p23, h24, hf⟩ := so_b hf
          obtain ⟨h24, k_p23⟩ := so_rk_s h24
          refine jr_rf h24 ?_
          refine jr_iload_n dX1_placesOn_89 rfl rfl ?_
          obtain ⟨g25, hf⟩ := so_gdE hf
          refine jr_iaload (so_m1 k_p23) (so_inE g25) dX1_placesOn_90 ?_
          refine jr_aload_n dX1_placesOn_91 rfl rfl jv_rr ?_
          refine jr_iload_n dX1_placesOn_92 rfl rfl ?_
          obtain ⟨r27, h26, hf⟩ := so_b hf
          obtain ⟨g28, hf⟩ := so_gdE hf
          refine jr_callM (st := [.int (so_I S20 p23 v7.toNatClampNeg), .int f2, .int (f1 + (1 : Int32)), .ref f0]) lk_X1_308_0 (wX1_pianoOf f0 f1 S20 k_f0 h26) k_f0 rfl rfl rfl (so_le rfl) (show 3 + 1 ≤ d0 + 5 by omega) dX1_placesOn_93 ?_
          refine jr_getI fl_X1_312_4 (of_decide_eq_true g28) (so_n26 rfl) dX1_placesOn_96 ?_
          refine so_jE hf (fun J => ∀ (v29 : Int32), J v29 = some S' → jg_ (S0, S', .inl none) (kX1_placesOn d0) 107 [(0, .ref f0), (1, .int f1), (2, .int f2), (3, .int v7)] [.int v29, .int f2, .int (f1 + (1 : Int32)), .ref f0] S20) (fun v29 hf => ?_) (fun J30 hJ30 hf => ?_)
          · refine jr_iadd dX1_placesOn_107 ?_
            obtain ⟨S33, h31, hf⟩ := so_b hf
            refine jr_callM (st := []) lk_X1_358_0 (hrec f0 (f1 + (1 : Int32)) (f2 + v29) S20 k_f0 h31) k_f0 rfl rfl rfl (so_le rfl) (show d0 + 0 + 1 ≤ d0 + 5 by omega) dX1_placesOn_108 ?_
            exact hJ15 S33 hf
          · refine jr_icmp_ne (tgt := 106) dX1_placesOn_99 rfl (fun c34 => ?_) (fun c34 => ?_)
            · have hf := so_f c34 hf
              refine jr_iconst dX1_placesOn_106 ic_0 ?_
              exact hJ30 (0 : Int32) hf
            · have hf := so_t c34 hf
              refine jr_iconst dX1_placesOn_102 ic_1 ?_
              refine jr_goto (tgt := 107) dX1_placesOn_103 rfl ?_
              exact hJ30 (1 : Int32) hf
        · have hf := so_t c16 hf
          refine jr_goto (tgt := 111) dX1_placesOn_67 rfl ?_
          exact hJ15 S8 hf
def fX1_placesOn (rec : Nat → Int32 → Int32 → so_St → Option so_St) (a0 : Nat) (a1 : Int32) (a2 : Int32) (S : so_St) : Option so_St :=
  (fX1_pianos a0 S).bind fun r2 =>
  if (so_I S a0 21) < ((a2 + r2) - a1) then
  ((fX1_pianos a0 S).bind fun r5 =>
  if a1 = r5 then
  (so_let (so_sI S a0 21 a2) fun S35 =>
  (so_rk (so_R S35 a0 19) [50]).bind fun p36 =>
  (so_rk (so_R S35 a0 20) [50]).bind fun p38 =>
  so_gd (so_cp (0 : Int32) (0 : Int32) (6 : Int32) (so_l S35 p36) (so_l S35 p38)) fun _ =>
  so_let (so_cpI S35 p36 p38 (0 : Int32).toNatClampNeg (0 : Int32).toNatClampNeg (6 : Int32).toNatClampNeg) fun S41 =>
  some S41)
  else
  (LX1_placesOn_47 rec a0 a1 a2 so_N (0 : Int32) S))
  else
  (some S)
set_option maxHeartbeats 4000000 in
set_option maxRecDepth 100000 in
theorem wX1_placesOn {d0 : Nat} {S' : so_St} {rec : Nat → Int32 → Int32 → so_St → Option so_St} (hrec : ∀ (a0 : Nat) (a1 : Int32) (a2 : Int32) (S : so_St), a0 % 64 ∈ [0] → ∀ {S' : so_St}, rec a0 a1 a2 S = some S' → jx_Sp d0 yX1_placesOn (ws_ yX1_placesOn cX1_placesOn 4 (Option.none : Option Jvm.ClassFile.FieldType)) [.ref a0, .int a1, .int a2] S (.inl none) S') (a0 : Nat) (a1 : Int32) (a2 : Int32)  (S : so_St) (k_a0 : a0 % 64 ∈ [0]) (hf : fX1_placesOn rec a0 a1 a2 S = some S') : jx_Sp (d0 + 5) yX1_placesOn (ws_ yX1_placesOn cX1_placesOn 4 (Option.none : Option Jvm.ClassFile.FieldType)) [.ref a0, .int a1, .int a2] S (.inl none) S' := by
  refine jx_of (plainFor_of_name (by decide)) (so_le rfl) ?_
  show jg_ (S, S', .inl none) (kX1_placesOn d0) 0 [(0, .ref a0), (1, .int a1), (2, .int a2)] [] S
  unfold fX1_placesOn at hf
  refine jr_iload_n dX1_placesOn_0 rfl rfl ?_
  refine jr_aload_n dX1_placesOn_1 rfl rfl jv_rr ?_
  obtain ⟨r2, h1, hf⟩ := so_b hf
  refine jr_callM (st := [.int a2]) lk_X1_156_0 (wX1_pianos a0 S k_a0 h1) k_a0 rfl rfl rfl (so_le rfl) (show 1 + 1 ≤ d0 + 5 by omega) dX1_placesOn_2 ?_
  refine jr_iadd dX1_placesOn_5 ?_
  refine jr_iload_n dX1_placesOn_6 rfl rfl ?_
  refine jr_isub dX1_placesOn_7 ?_
  refine jr_aload_n dX1_placesOn_8 rfl rfl jv_rr ?_
  refine jr_getI fl_X1_352_0 k_a0 (so_n26 rfl) dX1_placesOn_9 ?_
  refine jr_icmp_gt (tgt := 16) dX1_placesOn_12 rfl (fun c3 => ?_) (fun c3 => ?_)
  · have hf := so_t c3 hf
    refine jr_iload_n dX1_placesOn_16 rfl rfl ?_
    refine jr_aload_n dX1_placesOn_17 rfl rfl jv_rr ?_
    obtain ⟨r5, h4, hf⟩ := so_b hf
    refine jr_callM (st := [.int a1]) lk_X1_156_0 (wX1_pianos a0 S k_a0 h4) k_a0 rfl rfl rfl (so_le rfl) (show 1 + 1 ≤ d0 + 5 by omega) dX1_placesOn_18 ?_
    refine jr_icmp_ne (tgt := 45) dX1_placesOn_21 rfl (fun c6 => ?_) (fun c6 => ?_)
    · have hf := so_f c6 hf
      refine jr_iconst dX1_placesOn_45 ic_0 ?_
      refine jr_istore_n (lv' := [(0, .ref a0), (1, .int a1), (2, .int a2), (3, .int (0 : Int32))]) dX1_placesOn_46 rfl (so_le rfl) rfl ?_
      refine wX1_placesOn_47 hrec a0 a1 a2 k_a0 so_N (0 : Int32) S hf
    · have hf := so_t c6 hf
      refine jr_aload_n dX1_placesOn_24 rfl rfl jv_rr ?_
      refine jr_iload_n dX1_placesOn_25 rfl rfl ?_
      refine jr_putI fp_X1_352_0 k_a0 (so_n26 rfl) (fun h => by cases h) rfl rfl dX1_placesOn_26 ?_
      refine so_let_e hf (fun S35 hf => ?_)
      refine jr_aload_n dX1_placesOn_29 rfl rfl jv_rr ?_
      refine jr_getR fl_X1_77_0 k_a0 (so_n26 rfl) dX1_placesOn_30 ?_
      obtain ⟨p36, h37, hf⟩ := so_b hf
      obtain ⟨h37, k_p36⟩ := so_rk_s h37
      refine jr_rf h37 ?_
      refine jr_iconst dX1_placesOn_33 ic_0 ?_
      refine jr_aload_n dX1_placesOn_34 rfl rfl jv_rr ?_
      refine jr_getR fl_X1_80_0 k_a0 (so_n26 rfl) dX1_placesOn_35 ?_
      obtain ⟨p38, h39, hf⟩ := so_b hf
      obtain ⟨h39, k_p38⟩ := so_rk_s h39
      refine jr_rf h39 ?_
      refine jr_iconst dX1_placesOn_38 ic_0 ?_
      refine jr_bipush dX1_placesOn_39 bp_6 ?_
      obtain ⟨g40, hf⟩ := so_gdE hf
      refine jr_copyI q796 q299 q298 q115 (so_m1 k_p36) (so_m1 k_p38) (so_cpE g40).1 (so_cpE g40).2.1 (so_cpE g40).2.2.1 (so_cpE g40).2.2.2.1 (so_cpE g40).2.2.2.2 (so_le rfl) (so_le rfl) dX1_placesOn_41 ?_
      refine so_let_e hf (fun S41 hf => ?_)
      obtain rfl := so_e1 hf
      exact jr_vret rfl dX1_placesOn_44
  · have hf := so_f c3 hf
    obtain rfl := so_e1 hf
    exact jr_vret rfl dX1_placesOn_15

/- C:X1_placesOn -/
def fcX1_placesOn : Nat → Nat → Int32 → Int32 → so_St → Option so_St
  | 0 => fun _ _ _ _ => none
  | n + 1 => fX1_placesOn (fcX1_placesOn n)
theorem wcX1_placesOn : ∀ (n : Nat), ∀ (a0 : Nat) (a1 : Int32) (a2 : Int32) (S : so_St), a0 % 64 ∈ [0] → ∀ {S' : so_St}, fcX1_placesOn n a0 a1 a2 S = some S' → jx_Sp (5 * n) yX1_placesOn (ws_ yX1_placesOn cX1_placesOn 4 (Option.none : Option Jvm.ClassFile.FieldType)) [.ref a0, .int a1, .int a2] S (.inl none) S' := by
  intro n
  induction n with
  | zero =>
    intros
    rename_i hf
    exact so_no hf
  | succ n ih =>
    exact fun a0 a1 a2 S k0 _ hf => wX1_placesOn ih a0 a1 a2 S k0 hf


/- X1_findPlaces -/
abbrev kX1_findPlaces : jx_K := (cX1_findPlaces, 2, RX1, 61, (Option.none : Option Jvm.ClassFile.FieldType), "findPlaces", [])
def LX1_findPlaces_7 (f0 : Nat) (k26 : so_St → Option so_St) : Nat → Int32 → so_St → Option so_St
  | 0, _, _ => none
  | n + 1, v2, S3 =>
    if (6 : Int32) ≤ v2 then
    (k26 S3)
    else
    ((so_rk (so_R S3 f0 20) [50]).bind fun p5 =>
    so_gd (so_in v2 (so_l S3 p5)) fun _ =>
    so_let (so_sI S3 p5 v2.toNatClampNeg (-1 : Int32)) fun S8 =>
    LX1_findPlaces_7 f0 k26 n (v2 + (1 : Int32)) S8)
set_option maxHeartbeats 4000000 in
set_option maxRecDepth 100000 in
theorem wX1_findPlaces_7 {S' : so_St} {S0 : so_St}   (f0 : Nat)   (k_f0 : f0 % 64 ∈ [0]) (k26 : so_St → Option so_St) (h26 : ∀ (S9 : so_St), k26 S9 = some S' → jg_ (S0, S', .inl none) kX1_findPlaces 26 [(0, .ref f0)] [] S9) : ∀ (n : Nat) (v2 : Int32) (S3 : so_St), LX1_findPlaces_7 f0 k26 n v2 S3 = some S' → jg_ (S0, S', .inl none) kX1_findPlaces 7 [(0, .ref f0), (1, .int v2)] [] S3 := by
  intro n
  induction n with
  | zero =>
    intro v2 S3 hf
    exact so_no hf
  | succ n ih =>
    intro v2 S3 hf
    rw [LX1_findPlaces_7] at hf
    refine jr_iload_n dX1_findPlaces_7 rfl rfl ?_
    refine jr_bipush dX1_findPlaces_8 bp_6 ?_
    refine jr_icmp_ge (tgt := 26) dX1_findPlaces_10 rfl (fun c4 => ?_) (fun c4 => ?_)
    · have hf := so_t c4 hf
      refine jr_sub [0] rfl ?_
      exact h26 S3 hf
    · have hf := so_f c4 hf
      refine jr_aload_n dX1_findPlaces_13 rfl rfl jv_rr ?_
      refine jr_getR fl_X1_80_0 k_f0 (so_n26 rfl) dX1_findPlaces_14 ?_
      obtain ⟨p5, h6, hf⟩ := so_b hf
      obtain ⟨h6, k_p5⟩ := so_rk_s h6
      refine jr_rf h6 ?_
      refine jr_iload_n dX1_findPlaces_17 rfl rfl ?_
      refine jr_iconst dX1_findPlaces_18 ic_m1 ?_
      obtain ⟨g7, hf⟩ := so_gdE hf
      refine jr_iastore (so_m1 k_p5) (so_inE g7) dX1_findPlaces_19 ?_
      refine so_let_e hf (fun S8 hf => ?_)
      refine jr_iinc (v := v2 + (1 : Int32)) (lv' := [(0, .ref f0), (1, .int (v2 + (1 : Int32)))]) dX1_findPlaces_20 rfl rfl (so_le rfl) rfl ?_
      refine jr_goto (tgt := 7) dX1_findPlaces_23 rfl ?_
      exact ih (v2 + (1 : Int32)) S8 hf
def fX1_findPlaces (a0 : Nat) (S : so_St) : Option so_St :=
  so_let (so_sI S a0 21 (-1 : Int32)) fun S1 =>
  LX1_findPlaces_7 a0 (fun (S10 : so_St) =>
  (fcX1_placesOn 12 a0 (0 : Int32) (0 : Int32) S10).bind fun S13 =>
  some S13) so_N (0 : Int32) S1
set_option maxHeartbeats 4000000 in
set_option maxRecDepth 100000 in
theorem wX1_findPlaces {S' : so_St}  (a0 : Nat)  (S : so_St) (k_a0 : a0 % 64 ∈ [0]) (hf : fX1_findPlaces a0 S = some S') : jx_Sp 61 yX1_findPlaces (ws_ yX1_findPlaces cX1_findPlaces 2 (Option.none : Option Jvm.ClassFile.FieldType)) [.ref a0] S (.inl none) S' := by
  refine jx_of (plainFor_of_name (by decide)) (so_le rfl) ?_
  show jg_ (S, S', .inl none) kX1_findPlaces 0 [(0, .ref a0)] [] S
  unfold fX1_findPlaces at hf
  refine jr_aload_n dX1_findPlaces_0 rfl rfl jv_rr ?_
  refine jr_iconst dX1_findPlaces_1 ic_m1 ?_
  refine jr_putI fp_X1_352_0 k_a0 (so_n26 rfl) (fun h => by cases h) rfl rfl dX1_findPlaces_2 ?_
  refine so_let_e hf (fun S1 hf => ?_)
  refine jr_iconst dX1_findPlaces_5 ic_0 ?_
  refine jr_istore_n (lv' := [(0, .ref a0), (1, .int (0 : Int32))]) dX1_findPlaces_6 rfl (so_le rfl) rfl ?_
  refine wX1_findPlaces_7 a0 k_a0 _ (fun S10 hf => ?_) so_N (0 : Int32) S1 hf
  refine jr_aload_n dX1_findPlaces_26 rfl rfl jv_rr ?_
  refine jr_iconst dX1_findPlaces_27 ic_0 ?_
  refine jr_iconst dX1_findPlaces_28 ic_0 ?_
  obtain ⟨S13, h11, hf⟩ := so_b hf
  refine jr_callM (st := []) lk_X1_358_0 (wcX1_placesOn 12 a0 (0 : Int32) (0 : Int32) S10 k_a0 h11) k_a0 rfl rfl rfl (so_le rfl) (so_le rfl) dX1_findPlaces_29 ?_
  obtain rfl := so_e1 hf
  exact jr_vret rfl dX1_findPlaces_32

/- X1_placed -/
abbrev kX1_placed : jx_K := (cX1_placed, 2, RX1, 62, (Option.some Jvm.ClassFile.FieldType.int), "placed", [])
def fX1_placed (a0 : Nat) (a1 : Int32) (S : so_St) : Option ((Int32 ⊕ Nat) × so_St) :=
  so_b3 (fX1_needPiano a0 a1 S) (fun r1 S2 =>
  (fX1_findPlaces a0 S2).bind fun S9 =>
  (so_rk (so_R S9 a0 20) [50]).bind fun p10 =>
  so_gd (so_in a1 (so_l S9 p10)) fun _ =>
  some (.inl (so_I S9 p10 a1.toNatClampNeg), S9))
  (fun x3 S4 =>
  so_gd (decide (x3 % 64 ∈ [28])) fun _ =>
  some (.inr x3, S4))
set_option maxHeartbeats 4000000 in
set_option maxRecDepth 100000 in
theorem wX1_placed {res : Int32 ⊕ Nat} {S' : so_St}  (a0 : Nat) (a1 : Int32)  (S : so_St) (k_a0 : a0 % 64 ∈ [0]) (hf : fX1_placed a0 a1 S = some (res, S')) : jx_Sp 62 yX1_placed (ws_ yX1_placed cX1_placed 2 (Option.some Jvm.ClassFile.FieldType.int)) [.ref a0, .int a1] S (so_oi res) S' := by
  refine jx_of (plainFor_of_name (by decide)) (so_le rfl) ?_
  show jg_ (S, S', so_oi res) kX1_placed 0 [(0, .ref a0), (1, .int a1)] [] S
  unfold fX1_placed at hf
  refine jr_aload_n dX1_placed_0 rfl rfl jv_rr ?_
  refine jr_iload_n dX1_placed_1 rfl rfl ?_
  rcases so_b3E hf with ⟨r1, S2, h5, hf⟩ | ⟨x3, S4, h5, hf⟩
  · refine jr_callM (st := []) lk_X1_305_0 (wX1_needPiano a0 a1 S k_a0 h5) k_a0 rfl rfl rfl (so_le rfl) (so_le rfl) dX1_placed_2 ?_
    refine jr_aload_n dX1_placed_5 rfl rfl jv_rr ?_
    obtain ⟨S9, h7, hf⟩ := so_b hf
    refine jr_callM (st := []) lk_X1_361_0 (wX1_findPlaces a0 S2 k_a0 h7) k_a0 rfl rfl rfl (so_le rfl) (so_le rfl) dX1_placed_6 ?_
    refine jr_aload_n dX1_placed_9 rfl rfl jv_rr ?_
    refine jr_getR fl_X1_80_0 k_a0 (so_n26 rfl) dX1_placed_10 ?_
    obtain ⟨p10, h11, hf⟩ := so_b hf
    obtain ⟨h11, k_p10⟩ := so_rk_s h11
    refine jr_rf h11 ?_
    refine jr_iload_n dX1_placed_13 rfl rfl ?_
    obtain ⟨g12, hf⟩ := so_gdE hf
    refine jr_iaload (so_m1 k_p10) (so_inE g12) dX1_placed_14 ?_
    obtain ⟨rfl, rfl⟩ := so_e2 hf
    exact jr_iret rfl rfl dX1_placed_15
  · refine jr_callMX (st := []) lk_X1_305_0 (wX1_needPiano a0 a1 S k_a0 h5) k_a0 rfl rfl rfl (so_le rfl) (so_le rfl) dX1_placed_2 ?_
    obtain ⟨g6, hf⟩ := so_gdE hf
    obtain ⟨rfl, rfl⟩ := so_e2 hf
    exact jr_out (so_l29 (of_decide_eq_true g6) rfl).1 (so_l29 (of_decide_eq_true g6) rfl).2 rfl

/- X0_placed -/
abbrev kX0_placed : jx_K := (cX0_placed, 4, RX0, 63, (Option.some Jvm.ClassFile.FieldType.int), "placed", tableOf [(0, 9, 12, 31)])
def fX0_placed (a0 : Nat) (a1 : Int32) (a2 : Nat) (S : so_St) : Option (Int32 × so_St) :=
  so_b3 (fX1_placed a0 a1 S) (fun r1 S2 =>
  so_gd (so_in (0 : Int32) (so_l S2 a2)) fun _ =>
  so_let (so_sL S2 a2 (0 : Int32).toNatClampNeg r1.toInt64) fun S8 =>
  some ((0 : Int32), S8))
  (fun x3 S4 =>
  if x3 % 64 = 28 then
  (some ((1 : Int32), S4))
  else
  none)
set_option maxHeartbeats 4000000 in
set_option maxRecDepth 100000 in
theorem wX0_placed {res : Int32} {S' : so_St}  (a0 : Nat) (a1 : Int32) (a2 : Nat)  (S : so_St) (k_a0 : a0 % 64 ∈ [0]) (k_a2 : a2 % 64 ∈ [53]) (hf : fX0_placed a0 a1 a2 S = some (res, S')) : jx_Sp 63 yX0_placed (wsW_ yX0_placed cX0_placed 4 (Option.some Jvm.ClassFile.FieldType.int) [(0, 9, 12, 31)]) [.ref a0, .int a1, .ref a2] S (.inl (some (.int res))) S' := by
  refine jx_ofW (by decide) (so_le rfl) ?_
  show jg_ (S, S', .inl (some (.int res))) kX0_placed 0 [(0, .ref a0), (1, .int a1), (2, .ref a2)] [] S
  unfold fX0_placed at hf
  refine jr_aload_n dX0_placed_0 rfl rfl jv_rr ?_
  refine jr_iconst dX0_placed_1 ic_0 ?_
  refine jr_aload_n dX0_placed_2 rfl rfl jv_rr ?_
  refine jr_iload_n dX0_placed_3 rfl rfl ?_
  rcases so_b3E hf with ⟨r1, S2, h5, hf⟩ | ⟨x3, S4, h5, hf⟩
  · refine jr_callM (st := [.int (0 : Int32), .ref a2]) lk_X0_56_0 (wX1_placed a0 a1 S k_a0 h5) k_a0 rfl rfl rfl (so_le rfl) (so_le rfl) dX0_placed_4 ?_
    refine jr_i2l dX0_placed_7 ?_
    obtain ⟨g7, hf⟩ := so_gdE hf
    refine jr_lastore (so_m1 k_a2) (so_inE g7) dX0_placed_8 ?_
    refine so_let_e hf (fun S8 hf => ?_)
    refine jr_goto (tgt := 15) dX0_placed_9 rfl ?_
    refine jr_iconst dX0_placed_15 ic_0 ?_
    obtain ⟨rfl, rfl⟩ := so_e2 hf
    exact jr_iret rfl rfl dX0_placed_16
  · refine jr_callMX (st := [.int (0 : Int32), .ref a2]) lk_X0_56_0 (wX1_placed a0 a1 S k_a0 h5) k_a0 rfl rfl rfl (so_le rfl) (so_le rfl) dX0_placed_4 ?_
    by_cases c6 : x3 % 64 = 28
    · have hf := so_t c6 hf
      refine jr_catch (by rw [c6]; decide) (by rw [c6]; decide) [] ⟨0, 9, 12, 31⟩ [] rfl (fun _ h => by cases h) rfl (by decide) q1698 (by rw [c6]; exact q1713) ?_
      refine jr_astore_n (lv' := [(0, .ref a0), (1, .int a1), (2, .ref a2), (3, .ref x3)]) dX0_placed_12 rfl (so_le rfl) jv_rr rfl ?_
      refine jr_iconst dX0_placed_13 ic_1 ?_
      obtain ⟨rfl, rfl⟩ := so_e2 hf
      exact jr_iret rfl rfl dX0_placed_14
    · have hf := so_f c6 hf
      exact so_no hf

/- X1_layFrom -/
abbrev kX1_layFrom : jx_K := (cX1_layFrom, 5, RX1, 1202, (Option.none : Option Jvm.ClassFile.FieldType), "layFrom", [])
def LX1_layFrom_17 (f0 : Nat) (f1 : Int32) (f2 : Int32) (k70 : so_St → Option so_St) : Nat → Int32 → Int32 → so_St → Option so_St
  | 0, _, _, _ => none
  | n + 1, v4, v5, S6 =>
    if (61 : Int32) ≤ v5 then
    (k70 S6)
    else
    ((so_rk (so_R S6 f0 22) [50]).bind fun p8 =>
    so_gd (so_in (((61 : Int32) * f2) + v5) (so_l S6 p8)) fun _ =>
    so_let (so_sI S6 p8 (((61 : Int32) * f2) + v5).toNatClampNeg v4) fun S11 =>
    so_b2 (fX1_forceBy f0 ((f2 / (100 : Int32)) + (1 : Int32)) (0 : Int32) v5 v4 (0 : Int32) (0 : Int32) f1 v5 S11) fun r13 S14 =>
    LX1_layFrom_17 f0 f1 f2 k70 n (fJ12_min (99 : Int32) (v4 + r13)) (v5 + (1 : Int32)) S14)
set_option maxHeartbeats 4000000 in
set_option maxRecDepth 100000 in
theorem wX1_layFrom_17 {S' : so_St} {S0 : so_St}   (f0 : Nat) (f1 : Int32) (f2 : Int32)   (k_f0 : f0 % 64 ∈ [0]) (k70 : so_St → Option so_St) (h70 : ∀ (S15 : so_St), k70 S15 = some S' → jg_ (S0, S', .inl none) kX1_layFrom 70 [(0, .ref f0), (1, .int f1), (2, .int f2)] [] S15) : ∀ (n : Nat) (v4 : Int32) (v5 : Int32) (S6 : so_St), LX1_layFrom_17 f0 f1 f2 k70 n v4 v5 S6 = some S' → jg_ (S0, S', .inl none) kX1_layFrom 17 [(0, .ref f0), (1, .int f1), (2, .int f2), (3, .int v4), (4, .int v5)] [] S6 := by
  intro n
  induction n with
  | zero =>
    intro v4 v5 S6 hf
    exact so_no hf
  | succ n ih =>
    intro v4 v5 S6 hf
    rw [LX1_layFrom_17] at hf
    refine jr_iload dX1_layFrom_17 rfl ?_
    refine jr_bipush dX1_layFrom_19 bp_61 ?_
    refine jr_icmp_ge (tgt := 70) dX1_layFrom_21 rfl (fun c7 => ?_) (fun c7 => ?_)
    · have hf := so_t c7 hf
      refine jr_sub [0, 1, 2] rfl ?_
      exact h70 S6 hf
    · have hf := so_f c7 hf
      refine jr_aload_n dX1_layFrom_24 rfl rfl jv_rr ?_
      refine jr_getR fl_X1_84_0 k_f0 (so_n26 rfl) dX1_layFrom_25 ?_
      obtain ⟨p8, h9, hf⟩ := so_b hf
      obtain ⟨h9, k_p8⟩ := so_rk_s h9
      refine jr_rf h9 ?_
      refine jr_bipush dX1_layFrom_28 bp_61 ?_
      refine jr_iload_n dX1_layFrom_30 rfl rfl ?_
      refine jr_imul dX1_layFrom_31 ?_
      refine jr_iload dX1_layFrom_32 rfl ?_
      refine jr_iadd dX1_layFrom_34 ?_
      refine jr_iload_n dX1_layFrom_35 rfl rfl ?_
      obtain ⟨g10, hf⟩ := so_gdE hf
      refine jr_iastore (so_m1 k_p8) (so_inE g10) dX1_layFrom_36 ?_
      refine so_let_e hf (fun S11 hf => ?_)
      refine jr_bipush dX1_layFrom_37 bp_99 ?_
      refine jr_iload_n dX1_layFrom_39 rfl rfl ?_
      refine jr_aload_n dX1_layFrom_40 rfl rfl jv_rr ?_
      refine jr_iload_n dX1_layFrom_41 rfl rfl ?_
      refine jr_bipush dX1_layFrom_42 bp_100 ?_
      refine jr_idiv dX1_layFrom_44 (by decide) ?_
      refine jr_iconst dX1_layFrom_45 ic_1 ?_
      refine jr_iadd dX1_layFrom_46 ?_
      refine jr_iconst dX1_layFrom_47 ic_0 ?_
      refine jr_iload dX1_layFrom_48 rfl ?_
      refine jr_iload_n dX1_layFrom_50 rfl rfl ?_
      refine jr_iconst dX1_layFrom_51 ic_0 ?_
      refine jr_iconst dX1_layFrom_52 ic_0 ?_
      refine jr_iload_n dX1_layFrom_53 rfl rfl ?_
      refine jr_iload dX1_layFrom_54 rfl ?_
      obtain ⟨r13, S14, h12, hf⟩ := so_b2E hf
      refine jr_callM (st := [.int v4, .int (99 : Int32)]) lk_X1_329_0 (wX1_forceBy f0 ((f2 / (100 : Int32)) + (1 : Int32)) (0 : Int32) v5 v4 (0 : Int32) (0 : Int32) f1 v5 S11 k_f0 h12) k_f0 rfl rfl rfl (so_le rfl) (so_le rfl) dX1_layFrom_56 ?_
      refine jr_iadd dX1_layFrom_59 ?_
      refine jr_call (st := []) lk_X1_134 (wJ12_min (99 : Int32) (v4 + r13) S14 rfl) jk_r0 rfl rfl (so_le rfl) (so_le rfl) dX1_layFrom_60 ?_
      refine jr_istore_n (lv' := [(0, .ref f0), (1, .int f1), (2, .int f2), (3, .int (fJ12_min (99 : Int32) (v4 + r13))), (4, .int v5)]) dX1_layFrom_63 rfl (so_le rfl) rfl ?_
      refine jr_iinc (v := v5 + (1 : Int32)) (lv' := [(0, .ref f0), (1, .int f1), (2, .int f2), (3, .int (fJ12_min (99 : Int32) (v4 + r13))), (4, .int (v5 + (1 : Int32)))]) dX1_layFrom_64 rfl rfl (so_le rfl) rfl ?_
      refine jr_goto (tgt := 17) dX1_layFrom_67 rfl ?_
      exact ih (fJ12_min (99 : Int32) (v4 + r13)) (v5 + (1 : Int32)) S14 hf
def LX1_layFrom_2 (f0 : Nat) (f1 : Int32) : Nat → Int32 → so_St → Option so_St
  | 0, _, _ => none
  | n + 1, v1, S2 =>
    if (900 : Int32) ≤ v1 then
    (some S2)
    else
    (LX1_layFrom_17 f0 f1 v1 (fun (S16 : so_St) =>
    LX1_layFrom_2 f0 f1 n (v1 + (1 : Int32)) S16) so_N (v1 - v1 / (100 : Int32) * (100 : Int32)) (0 : Int32) S2)
set_option maxHeartbeats 4000000 in
set_option maxRecDepth 100000 in
theorem wX1_layFrom_2 {S' : so_St} {S0 : so_St}   (f0 : Nat) (f1 : Int32)   (k_f0 : f0 % 64 ∈ [0]) : ∀ (n : Nat) (v1 : Int32) (S2 : so_St), LX1_layFrom_2 f0 f1 n v1 S2 = some S' → jg_ (S0, S', .inl none) kX1_layFrom 2 [(0, .ref f0), (1, .int f1), (2, .int v1)] [] S2 := by
  intro n
  induction n with
  | zero =>
    intro v1 S2 hf
    exact so_no hf
  | succ n ih =>
    intro v1 S2 hf
    rw [LX1_layFrom_2] at hf
    refine jr_iload_n dX1_layFrom_2 rfl rfl ?_
    refine jr_sipush dX1_layFrom_3 sp_900 ?_
    refine jr_icmp_ge (tgt := 76) dX1_layFrom_6 rfl (fun c3 => ?_) (fun c3 => ?_)
    · have hf := so_t c3 hf
      obtain rfl := so_e1 hf
      exact jr_vret rfl dX1_layFrom_76
    · have hf := so_f c3 hf
      refine jr_iload_n dX1_layFrom_9 rfl rfl ?_
      refine jr_bipush dX1_layFrom_10 bp_100 ?_
      refine jr_irem dX1_layFrom_12 (by decide) ?_
      refine jr_istore_n (lv' := [(0, .ref f0), (1, .int f1), (2, .int v1), (3, .int (v1 - v1 / (100 : Int32) * (100 : Int32)))]) dX1_layFrom_13 rfl (so_le rfl) rfl ?_
      refine jr_iconst dX1_layFrom_14 ic_0 ?_
      refine jr_istore (lv' := [(0, .ref f0), (1, .int f1), (2, .int v1), (3, .int (v1 - v1 / (100 : Int32) * (100 : Int32))), (4, .int (0 : Int32))]) dX1_layFrom_15 (so_le rfl) rfl ?_
      refine wX1_layFrom_17 f0 f1 v1 k_f0 _ (fun S16 hf => ?_) so_N (v1 - v1 / (100 : Int32) * (100 : Int32)) (0 : Int32) S2 hf
      refine jr_iinc (v := v1 + (1 : Int32)) (lv' := [(0, .ref f0), (1, .int f1), (2, .int (v1 + (1 : Int32)))]) dX1_layFrom_70 rfl rfl (so_le rfl) rfl ?_
      refine jr_goto (tgt := 2) dX1_layFrom_73 rfl ?_
      exact ih (v1 + (1 : Int32)) S16 hf
def fX1_layFrom (a0 : Nat) (a1 : Int32) (S : so_St) : Option so_St :=
  LX1_layFrom_2 a0 a1 so_N (0 : Int32) S
set_option maxHeartbeats 4000000 in
set_option maxRecDepth 100000 in
theorem wX1_layFrom {S' : so_St}  (a0 : Nat) (a1 : Int32)  (S : so_St) (k_a0 : a0 % 64 ∈ [0]) (hf : fX1_layFrom a0 a1 S = some S') : jx_Sp 1202 yX1_layFrom (ws_ yX1_layFrom cX1_layFrom 5 (Option.none : Option Jvm.ClassFile.FieldType)) [.ref a0, .int a1] S (.inl none) S' := by
  refine jx_of (plainFor_of_name (by decide)) (so_le rfl) ?_
  show jg_ (S, S', .inl none) kX1_layFrom 0 [(0, .ref a0), (1, .int a1)] [] S
  unfold fX1_layFrom at hf
  refine jr_iconst dX1_layFrom_0 ic_0 ?_
  refine jr_istore_n (lv' := [(0, .ref a0), (1, .int a1), (2, .int (0 : Int32))]) dX1_layFrom_1 rfl (so_le rfl) rfl ?_
  refine wX1_layFrom_2 a0 a1 k_a0 so_N (0 : Int32) S hf

/- X1_isFit -/
abbrev kX1_isFit : jx_K := (cX1_isFit, 3, RX1, 0, (Option.some Jvm.ClassFile.FieldType.boolean), "isFit", [])
def LX1_isFit_2 (f0 : Nat) (f1 : Int32) (S : so_St) : Nat → Int32 → Option Int32
  | 0, _ => none
  | n + 1, v1 =>
    if (61 : Int32) ≤ v1 then
    (some (1 : Int32))
    else
    ((so_rk (so_R S f0 3) [50]).bind fun p3 =>
    so_gd (so_in v1 (so_l S p3)) fun _ =>
    so_j (κ := Unit → Option Int32) (ρ := Option Int32) (fun (_u : Unit) =>
    LX1_isFit_2 f0 f1 S n (v1 + (1 : Int32)))
    (fun J6 =>
    if (so_I S p3 v1.toNatClampNeg) = (-1 : Int32) then
    (J6 ())
    else
    ((so_rk (so_R S f0 22) [50]).bind fun p8 =>
    so_gd (so_in (((61 : Int32) * f1) + v1) (so_l S p8)) fun _ =>
    (so_rk (so_R S f0 3) [50]).bind fun p11 =>
    so_gd (so_in v1 (so_l S p11)) fun _ =>
    if (so_I S p8 (((61 : Int32) * f1) + v1).toNatClampNeg) = (so_I S p11 v1.toNatClampNeg) then
    (J6 ())
    else
    (some (0 : Int32)))))
set_option maxHeartbeats 4000000 in
set_option maxRecDepth 100000 in
theorem wX1_isFit_2 {res : Int32}   (f0 : Nat) (f1 : Int32)  (S : so_St) (k_f0 : f0 % 64 ∈ [0]) : ∀ (n : Nat) (v1 : Int32), LX1_isFit_2 f0 f1 S n v1 = some res → jg_ (S, S, .inl (some (.int res))) kX1_isFit 2 [(0, .ref f0), (1, .int f1), (2, .int v1)] [] S := by
  intro n
  induction n with
  | zero =>
    intro v1 hf
    exact so_no hf
  | succ n ih =>
    intro v1 hf
    rw [LX1_isFit_2] at hf
    refine jr_iload_n dX1_isFit_2 rfl rfl ?_
    refine jr_bipush dX1_isFit_3 bp_61 ?_
    refine jr_icmp_ge (tgt := 46) dX1_isFit_5 rfl (fun c2 => ?_) (fun c2 => ?_)
    · have hf := so_t c2 hf
      refine jr_iconst dX1_isFit_46 ic_1 ?_
      obtain rfl := so_e1 hf
      exact jr_iret rfl rfl dX1_isFit_47
    · have hf := so_f c2 hf
      refine jr_aload_n dX1_isFit_8 rfl rfl jv_rr ?_
      refine jr_getR fl_X1_38_0 k_f0 (so_n26 rfl) dX1_isFit_9 ?_
      obtain ⟨p3, h4, hf⟩ := so_b hf
      obtain ⟨h4, k_p3⟩ := so_rk_s h4
      refine jr_rf h4 ?_
      refine jr_iload_n dX1_isFit_12 rfl rfl ?_
      obtain ⟨g5, hf⟩ := so_gdE hf
      refine jr_iaload (so_m1 k_p3) (so_inE g5) dX1_isFit_13 ?_
      refine jr_iconst dX1_isFit_14 ic_m1 ?_
      refine so_jE hf (fun J => ∀ (u0 : Unit), J u0 = some res → jg_ (S, S, .inl (some (.int res))) kX1_isFit 40 [(0, .ref f0), (1, .int f1), (2, .int v1)] [] S) (fun _u hf => ?_) (fun J6 hJ6 hf => ?_)
      · refine jr_iinc (v := v1 + (1 : Int32)) (lv' := [(0, .ref f0), (1, .int f1), (2, .int (v1 + (1 : Int32)))]) dX1_isFit_40 rfl rfl (so_le rfl) rfl ?_
        refine jr_goto (tgt := 2) dX1_isFit_43 rfl ?_
        exact ih (v1 + (1 : Int32)) hf
      · refine jr_icmp_eq (tgt := 40) dX1_isFit_15 rfl (fun c7 => ?_) (fun c7 => ?_)
        · have hf := so_t c7 hf
          exact hJ6 () hf
        · have hf := so_f c7 hf
          refine jr_aload_n dX1_isFit_18 rfl rfl jv_rr ?_
          refine jr_getR fl_X1_84_0 k_f0 (so_n26 rfl) dX1_isFit_19 ?_
          obtain ⟨p8, h9, hf⟩ := so_b hf
          obtain ⟨h9, k_p8⟩ := so_rk_s h9
          refine jr_rf h9 ?_
          refine jr_bipush dX1_isFit_22 bp_61 ?_
          refine jr_iload_n dX1_isFit_24 rfl rfl ?_
          refine jr_imul dX1_isFit_25 ?_
          refine jr_iload_n dX1_isFit_26 rfl rfl ?_
          refine jr_iadd dX1_isFit_27 ?_
          obtain ⟨g10, hf⟩ := so_gdE hf
          refine jr_iaload (so_m1 k_p8) (so_inE g10) dX1_isFit_28 ?_
          refine jr_aload_n dX1_isFit_29 rfl rfl jv_rr ?_
          refine jr_getR fl_X1_38_0 k_f0 (so_n26 rfl) dX1_isFit_30 ?_
          obtain ⟨p11, h12, hf⟩ := so_b hf
          obtain ⟨h12, k_p11⟩ := so_rk_s h12
          refine jr_rf h12 ?_
          refine jr_iload_n dX1_isFit_33 rfl rfl ?_
          obtain ⟨g13, hf⟩ := so_gdE hf
          refine jr_iaload (so_m1 k_p11) (so_inE g13) dX1_isFit_34 ?_
          refine jr_icmp_eq (tgt := 40) dX1_isFit_35 rfl (fun c14 => ?_) (fun c14 => ?_)
          · have hf := so_t c14 hf
            exact hJ6 () hf
          · have hf := so_f c14 hf
            refine jr_iconst dX1_isFit_38 ic_0 ?_
            obtain rfl := so_e1 hf
            exact jr_iret rfl rfl dX1_isFit_39
def fX1_isFit (a0 : Nat) (a1 : Int32) (S : so_St) : Option Int32 :=
  LX1_isFit_2 a0 a1 S so_N (0 : Int32)
set_option maxHeartbeats 4000000 in
set_option maxRecDepth 100000 in
theorem wX1_isFit {res : Int32}  (a0 : Nat) (a1 : Int32)  (S : so_St) (k_a0 : a0 % 64 ∈ [0]) (hf : fX1_isFit a0 a1 S = some res) : jx_Sp 0 yX1_isFit (ws_ yX1_isFit cX1_isFit 3 (Option.some Jvm.ClassFile.FieldType.boolean)) [.ref a0, .int a1] S (.inl (some (.int res))) S := by
  refine jx_of (plainFor_of_name (by decide)) (so_le rfl) ?_
  show jg_ (S, S, .inl (some (.int res))) kX1_isFit 0 [(0, .ref a0), (1, .int a1)] [] S
  unfold fX1_isFit at hf
  refine jr_iconst dX1_isFit_0 ic_0 ?_
  refine jr_istore_n (lv' := [(0, .ref a0), (1, .int a1), (2, .int (0 : Int32))]) dX1_isFit_1 rfl (so_le rfl) rfl ?_
  refine wX1_isFit_2 a0 a1 S k_a0 so_N (0 : Int32) hf

/- X1_from -/
abbrev kX1_from : jx_K := (cX1_from, 6, RX1, 1203, (Option.some Jvm.ClassFile.FieldType.int), "from", [])
def LX1_from_26 (f0 : Nat) (f2 : Int32) (k79 : Int32 → Int32 → so_St → Option ((Int32 ⊕ Nat) × so_St)) : Nat → Int32 → Int32 → Int32 → so_St → Option ((Int32 ⊕ Nat) × so_St)
  | 0, _, _, _, _ => none
  | n + 1, v16, v17, v18, S19 =>
    if (900 : Int32) ≤ v18 then
    (k79 v16 v17 S19)
    else
    ((fX1_isFit f0 v18 S19).bind fun r22 =>
    so_j (κ := Int32 → Int32 → Option ((Int32 ⊕ Nat) × so_St)) (ρ := Option ((Int32 ⊕ Nat) × so_St)) (fun (v23 : Int32) (v24 : Int32) =>
    LX1_from_26 f0 f2 k79 n v23 v24 (v18 + (1 : Int32)) S19)
    (fun J25 =>
    if r22 = (0 : Int32) then
    (J25 v16 v17)
    else
    (if v17 = (-1 : Int32) then
    (J25 (v16 + (1 : Int32)) (((100 : Int32) * ((v18 / (100 : Int32)) + (1 : Int32))) + (v18 - v18 / (100 : Int32) * (100 : Int32))))
    else
    (J25 (v16 + (1 : Int32)) v17))))
set_option maxHeartbeats 4000000 in
set_option maxRecDepth 100000 in
theorem wX1_from_26 {res : Int32 ⊕ Nat} {S' : so_St} {S0 : so_St}   (f0 : Nat) (f2 : Int32)   (k_f0 : f0 % 64 ∈ [0]) (k79 : Int32 → Int32 → so_St → Option ((Int32 ⊕ Nat) × so_St)) (h79 : ∀ (v28 : Int32) (v29 : Int32) (S30 : so_St), k79 v28 v29 S30 = some (res, S') → jg_ (S0, S', so_oi res) kX1_from 79 [(2, .int f2), (3, .int v28), (4, .int v29)] [] S30) : ∀ (n : Nat) (v16 : Int32) (v17 : Int32) (v18 : Int32) (S19 : so_St), LX1_from_26 f0 f2 k79 n v16 v17 v18 S19 = some (res, S') → jg_ (S0, S', so_oi res) kX1_from 26 [(0, .ref f0), (2, .int f2), (3, .int v16), (4, .int v17), (5, .int v18)] [] S19 := by
  intro n
  induction n with
  | zero =>
    intro v16 v17 v18 S19 hf
    exact so_no hf
  | succ n ih =>
    intro v16 v17 v18 S19 hf
    rw [LX1_from_26] at hf
    refine jr_iload dX1_from_26 rfl ?_
    refine jr_sipush dX1_from_28 sp_900 ?_
    refine jr_icmp_ge (tgt := 79) dX1_from_31 rfl (fun c20 => ?_) (fun c20 => ?_)
    · have hf := so_t c20 hf
      refine jr_sub [1, 2, 3] rfl ?_
      exact h79 v16 v17 S19 hf
    · have hf := so_f c20 hf
      refine jr_aload_n dX1_from_34 rfl rfl jv_rr ?_
      refine jr_iload dX1_from_35 rfl ?_
      obtain ⟨r22, h21, hf⟩ := so_b hf
      refine jr_callM (st := []) lk_X1_367_0 (wX1_isFit f0 v18 S19 k_f0 h21) k_f0 rfl rfl rfl (so_le rfl) (so_le rfl) dX1_from_37 ?_
      refine so_jE hf (fun J => ∀ (v23 : Int32) (v24 : Int32), J v23 v24 = some (res, S') → jg_ (S0, S', so_oi res) kX1_from 73 [(0, .ref f0), (2, .int f2), (3, .int v23), (4, .int v24), (5, .int v18)] [] S19) (fun v23 v24 hf => ?_) (fun J25 hJ25 hf => ?_)
      · refine jr_iinc (v := v18 + (1 : Int32)) (lv' := [(0, .ref f0), (2, .int f2), (3, .int v23), (4, .int v24), (5, .int (v18 + (1 : Int32)))]) dX1_from_73 rfl rfl (so_le rfl) rfl ?_
        refine jr_goto (tgt := 26) dX1_from_76 rfl ?_
        exact ih v23 v24 (v18 + (1 : Int32)) S19 hf
      · refine jr_if_ne (tgt := 46) dX1_from_40 rfl (fun c26 => ?_) (fun c26 => ?_)
        · have hf := so_f c26 hf
          refine jr_iinc (v := v16 + (1 : Int32)) (lv' := [(0, .ref f0), (2, .int f2), (3, .int (v16 + (1 : Int32))), (4, .int v17), (5, .int v18)]) dX1_from_46 rfl rfl (so_le rfl) rfl ?_
          refine jr_iload dX1_from_49 rfl ?_
          refine jr_iconst dX1_from_51 ic_m1 ?_
          refine jr_icmp_ne (tgt := 73) dX1_from_52 rfl (fun c27 => ?_) (fun c27 => ?_)
          · have hf := so_f c27 hf
            exact hJ25 (v16 + (1 : Int32)) v17 hf
          · have hf := so_t c27 hf
            refine jr_bipush dX1_from_55 bp_100 ?_
            refine jr_iload dX1_from_57 rfl ?_
            refine jr_bipush dX1_from_59 bp_100 ?_
            refine jr_idiv dX1_from_61 (by decide) ?_
            refine jr_iconst dX1_from_62 ic_1 ?_
            refine jr_iadd dX1_from_63 ?_
            refine jr_imul dX1_from_64 ?_
            refine jr_iload dX1_from_65 rfl ?_
            refine jr_bipush dX1_from_67 bp_100 ?_
            refine jr_irem dX1_from_69 (by decide) ?_
            refine jr_iadd dX1_from_70 ?_
            refine jr_istore (lv' := [(0, .ref f0), (2, .int f2), (3, .int (v16 + (1 : Int32))), (4, .int (((100 : Int32) * ((v18 / (100 : Int32)) + (1 : Int32))) + (v18 - v18 / (100 : Int32) * (100 : Int32)))), (5, .int v18)]) dX1_from_71 (so_le rfl) rfl ?_
            exact hJ25 (v16 + (1 : Int32)) (((100 : Int32) * ((v18 / (100 : Int32)) + (1 : Int32))) + (v18 - v18 / (100 : Int32) * (100 : Int32))) hf
        · have hf := so_t c26 hf
          refine jr_goto (tgt := 73) dX1_from_43 rfl ?_
          exact hJ25 v16 v17 hf
def fX1_from (a0 : Nat) (a1 : Int32) (a2 : Int32) (S : so_St) : Option ((Int32 ⊕ Nat) × so_St) :=
  so_b3 (fX1_needHouse a0 a1 S) (fun r1 S2 =>
  so_b3 (fX1_need a0 (fX1_isPart a2) S2) (fun r7 S8 =>
  (fX1_layFrom a0 a1 S8).bind fun S15 =>
  LX1_from_26 a0 a2 (fun (v31 : Int32) (v32 : Int32) (S33 : so_St) =>
  if a2 = (0 : Int32) then
  (some (.inl v31, S33))
  else
  (some (.inl v32, S33))) so_N (0 : Int32) (-1 : Int32) (0 : Int32) S15)
  (fun x9 S10 =>
  so_gd (decide (x9 % 64 ∈ [27])) fun _ =>
  some (.inr x9, S10)))
  (fun x3 S4 =>
  so_gd (decide (x3 % 64 ∈ [28])) fun _ =>
  some (.inr x3, S4))
set_option maxHeartbeats 4000000 in
set_option maxRecDepth 100000 in
theorem wX1_from {res : Int32 ⊕ Nat} {S' : so_St}  (a0 : Nat) (a1 : Int32) (a2 : Int32)  (S : so_St) (k_a0 : a0 % 64 ∈ [0]) (hf : fX1_from a0 a1 a2 S = some (res, S')) : jx_Sp 1203 yX1_from (ws_ yX1_from cX1_from 6 (Option.some Jvm.ClassFile.FieldType.int)) [.ref a0, .int a1, .int a2] S (so_oi res) S' := by
  refine jx_of (plainFor_of_name (by decide)) (so_le rfl) ?_
  show jg_ (S, S', so_oi res) kX1_from 0 [(0, .ref a0), (1, .int a1), (2, .int a2)] [] S
  unfold fX1_from at hf
  refine jr_aload_n dX1_from_0 rfl rfl jv_rr ?_
  refine jr_iload_n dX1_from_1 rfl rfl ?_
  rcases so_b3E hf with ⟨r1, S2, h5, hf⟩ | ⟨x3, S4, h5, hf⟩
  · refine jr_callM (st := []) lk_X1_274_0 (wX1_needHouse a0 a1 S k_a0 h5) k_a0 rfl rfl rfl (so_le rfl) (so_le rfl) dX1_from_2 ?_
    refine jr_aload_n dX1_from_5 rfl rfl jv_rr ?_
    refine jr_iload_n dX1_from_6 rfl rfl ?_
    refine jr_call (st := [.ref a0]) lk_X1_296 (wX1_isPart a2 S2 rfl) jk_r0 rfl rfl (so_le rfl) (so_le rfl) dX1_from_7 ?_
    rcases so_b3E hf with ⟨r7, S8, h11, hf⟩ | ⟨x9, S10, h11, hf⟩
    · refine jr_callM (st := []) lk_X1_172_0 (wX1_need a0 (fX1_isPart a2) S2 k_a0 h11) k_a0 rfl rfl rfl (so_le rfl) (so_le rfl) dX1_from_10 ?_
      refine jr_aload_n dX1_from_13 rfl rfl jv_rr ?_
      refine jr_iload_n dX1_from_14 rfl rfl ?_
      obtain ⟨S15, h13, hf⟩ := so_b hf
      refine jr_callM (st := []) lk_X1_364_0 (wX1_layFrom a0 a1 S8 k_a0 h13) k_a0 rfl rfl rfl (so_le rfl) (so_le rfl) dX1_from_15 ?_
      refine jr_iconst dX1_from_18 ic_0 ?_
      refine jr_istore_n (lv' := [(0, .ref a0), (1, .int a1), (2, .int a2), (3, .int (0 : Int32))]) dX1_from_19 rfl (so_le rfl) rfl ?_
      refine jr_iconst dX1_from_20 ic_m1 ?_
      refine jr_istore (lv' := [(0, .ref a0), (1, .int a1), (2, .int a2), (3, .int (0 : Int32)), (4, .int (-1 : Int32))]) dX1_from_21 (so_le rfl) rfl ?_
      refine jr_iconst dX1_from_23 ic_0 ?_
      refine jr_istore (lv' := [(0, .ref a0), (1, .int a1), (2, .int a2), (3, .int (0 : Int32)), (4, .int (-1 : Int32)), (5, .int (0 : Int32))]) dX1_from_24 (so_le rfl) rfl ?_
      refine jr_sub [0, 2, 3, 4, 5] rfl ?_
      refine wX1_from_26 a0 a2 k_a0 _ (fun v31 v32 S33 hf => ?_) so_N (0 : Int32) (-1 : Int32) (0 : Int32) S15 hf
      refine jr_iload_n dX1_from_79 rfl rfl ?_
      refine jr_if_ne (tgt := 87) dX1_from_80 rfl (fun c34 => ?_) (fun c34 => ?_)
      · have hf := so_f c34 hf
        refine jr_iload dX1_from_87 rfl ?_
        obtain ⟨rfl, rfl⟩ := so_e2 hf
        exact jr_iret rfl rfl dX1_from_89
      · have hf := so_t c34 hf
        refine jr_iload_n dX1_from_83 rfl rfl ?_
        refine jr_goto (tgt := 89) dX1_from_84 rfl ?_
        obtain ⟨rfl, rfl⟩ := so_e2 hf
        exact jr_iret rfl rfl dX1_from_89
    · refine jr_callMX (st := []) lk_X1_172_0 (wX1_need a0 (fX1_isPart a2) S2 k_a0 h11) k_a0 rfl rfl rfl (so_le rfl) (so_le rfl) dX1_from_10 ?_
      obtain ⟨g12, hf⟩ := so_gdE hf
      obtain ⟨rfl, rfl⟩ := so_e2 hf
      exact jr_out (so_l29 (of_decide_eq_true g12) rfl).1 (so_l29 (of_decide_eq_true g12) rfl).2 rfl
  · refine jr_callMX (st := []) lk_X1_274_0 (wX1_needHouse a0 a1 S k_a0 h5) k_a0 rfl rfl rfl (so_le rfl) (so_le rfl) dX1_from_2 ?_
    obtain ⟨g6, hf⟩ := so_gdE hf
    obtain ⟨rfl, rfl⟩ := so_e2 hf
    exact jr_out (so_l29 (of_decide_eq_true g6) rfl).1 (so_l29 (of_decide_eq_true g6) rfl).2 rfl

/- X0_from -/
abbrev kX0_from : jx_K := (cX0_from, 5, RX0, 1204, (Option.some Jvm.ClassFile.FieldType.int), "from", tableOf [(0, 10, 13, 31), (0, 10, 17, 13)])
def fX0_from (a0 : Nat) (a1 : Int32) (a2 : Int32) (a3 : Nat) (S : so_St) : Option (Int32 × so_St) :=
  so_b3 (fX1_from a0 a1 a2 S) (fun r1 S2 =>
  so_gd (so_in (0 : Int32) (so_l S2 a3)) fun _ =>
  so_let (so_sL S2 a3 (0 : Int32).toNatClampNeg r1.toInt64) fun S9 =>
  some ((0 : Int32), S9))
  (fun x3 S4 =>
  if x3 % 64 = 27 then
  (some ((2 : Int32), S4))
  else
  if x3 % 64 = 28 then
  (some ((1 : Int32), S4))
  else
  none)
set_option maxHeartbeats 4000000 in
set_option maxRecDepth 100000 in
theorem wX0_from {res : Int32} {S' : so_St}  (a0 : Nat) (a1 : Int32) (a2 : Int32) (a3 : Nat)  (S : so_St) (k_a0 : a0 % 64 ∈ [0]) (k_a3 : a3 % 64 ∈ [53]) (hf : fX0_from a0 a1 a2 a3 S = some (res, S')) : jx_Sp 1204 yX0_from (wsW_ yX0_from cX0_from 5 (Option.some Jvm.ClassFile.FieldType.int) [(0, 10, 13, 31), (0, 10, 17, 13)]) [.ref a0, .int a1, .int a2, .ref a3] S (.inl (some (.int res))) S' := by
  refine jx_ofW (by decide) (so_le rfl) ?_
  show jg_ (S, S', .inl (some (.int res))) kX0_from 0 [(0, .ref a0), (1, .int a1), (2, .int a2), (3, .ref a3)] [] S
  unfold fX0_from at hf
  refine jr_aload_n dX0_from_0 rfl rfl jv_rr ?_
  refine jr_iconst dX0_from_1 ic_0 ?_
  refine jr_aload_n dX0_from_2 rfl rfl jv_rr ?_
  refine jr_iload_n dX0_from_3 rfl rfl ?_
  refine jr_iload_n dX0_from_4 rfl rfl ?_
  rcases so_b3E hf with ⟨r1, S2, h5, hf⟩ | ⟨x3, S4, h5, hf⟩
  · refine jr_callM (st := [.int (0 : Int32), .ref a3]) lk_X0_59_0 (wX1_from a0 a1 a2 S k_a0 h5) k_a0 rfl rfl rfl (so_le rfl) (so_le rfl) dX0_from_5 ?_
    refine jr_i2l dX0_from_8 ?_
    obtain ⟨g8, hf⟩ := so_gdE hf
    refine jr_lastore (so_m1 k_a3) (so_inE g8) dX0_from_9 ?_
    refine so_let_e hf (fun S9 hf => ?_)
    refine jr_goto (tgt := 21) dX0_from_10 rfl ?_
    refine jr_iconst dX0_from_21 ic_0 ?_
    obtain ⟨rfl, rfl⟩ := so_e2 hf
    exact jr_iret rfl rfl dX0_from_22
  · refine jr_callMX (st := [.int (0 : Int32), .ref a3]) lk_X0_59_0 (wX1_from a0 a1 a2 S k_a0 h5) k_a0 rfl rfl rfl (so_le rfl) (so_le rfl) dX0_from_5 ?_
    by_cases c6 : x3 % 64 = 27
    · have hf := so_t c6 hf
      refine jr_catch (by rw [c6]; decide) (by rw [c6]; decide) [(⟨0, 10, 13, 31⟩ : ExceptionTableEntry)] ⟨0, 10, 17, 13⟩ [] rfl (List.forall_mem_cons.mpr ⟨Or.inr ⟨by decide, c6, q1698⟩, fun _ h => by cases h⟩) rfl (by decide) q863 (by rw [c6]; exact q181) ?_
      refine jr_astore (lv' := [(0, .ref a0), (1, .int a1), (2, .int a2), (3, .ref a3), (4, .ref x3)]) dX0_from_17 (so_le rfl) jv_rr rfl ?_
      refine jr_iconst dX0_from_19 ic_2 ?_
      obtain ⟨rfl, rfl⟩ := so_e2 hf
      exact jr_iret rfl rfl dX0_from_20
    · have hf := so_f c6 hf
      by_cases c7 : x3 % 64 = 28
      · have hf := so_t c7 hf
        refine jr_catch (by rw [c7]; decide) (by rw [c7]; decide) [] ⟨0, 10, 13, 31⟩ [(⟨0, 10, 17, 13⟩ : ExceptionTableEntry)] rfl (fun _ h => by cases h) rfl (by decide) q1698 (by rw [c7]; exact q1713) ?_
        refine jr_astore (lv' := [(0, .ref a0), (1, .int a1), (2, .int a2), (3, .ref a3), (4, .ref x3)]) dX0_from_13 (so_le rfl) jv_rr rfl ?_
        refine jr_iconst dX0_from_15 ic_1 ?_
        obtain ⟨rfl, rfl⟩ := so_e2 hf
        exact jr_iret rfl rfl dX0_from_16
      · have hf := so_f c7 hf
        exact so_no hf
