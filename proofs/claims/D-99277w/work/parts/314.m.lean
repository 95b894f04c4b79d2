/-! printed: functions and walks -/
set_option maxRecDepth 100000
set_option linter.unusedVariables false
/- X0_quiet -/
abbrev kX0_quiet : jx_K := (cX0_quiet, 4, RX0, 9, (Option.some Jvm.ClassFile.FieldType.int), "quiet", tableOf [(0, 9, 12, 31)])
def fX0_quiet (a0 : Nat) (a1 : Int32) (a2 : Nat) (S : so_St) : Option (Int32 × so_St) :=
  so_b3 (fX1_quiet a0 a1 S) (fun r1 S2 =>
  so_gd (so_in (0 : Int32) (so_l S2 a2)) fun _ =>
  so_let (so_sL S2 a2 (0 : Int32).toNatClampNeg r1.toInt64) fun S8 =>
  some ((0 : Int32), S8))
  (fun x3 S4 =>
  if x3 % 64 = 28 then
  (some ((1 : Int32), S4))
  else
  none)
set_option maxHeartbeats 4000000 in
set_option maxRecDepth 100000 in
theorem wX0_quiet {res : Int32} {S' : so_St}  (a0 : Nat) (a1 : Int32) (a2 : Nat)  (S : so_St) (k_a0 : a0 % 64 ∈ [0]) (k_a2 : a2 % 64 ∈ [53]) (hf : fX0_quiet a0 a1 a2 S = some (res, S')) : jx_Sp 9 yX0_quiet (wsW_ yX0_quiet cX0_quiet 4 (Option.some Jvm.ClassFile.FieldType.int) [(0, 9, 12, 31)]) [.ref a0, .int a1, .ref a2] S (.inl (some (.int res))) S' := by
  refine jx_ofW (by decide) (so_le rfl) ?_
  show jg_ (S, S', .inl (some (.int res))) kX0_quiet 0 [(0, .ref a0), (1, .int a1), (2, .ref a2)] [] S
  unfold fX0_quiet at hf
  refine jr_aload_n dX0_quiet_0 rfl rfl jv_rr ?_
  refine jr_iconst dX0_quiet_1 ic_0 ?_
  refine jr_aload_n dX0_quiet_2 rfl rfl jv_rr ?_
  refine jr_iload_n dX0_quiet_3 rfl rfl ?_
  rcases so_b3E hf with ⟨r1, S2, h5, hf⟩ | ⟨x3, S4, h5, hf⟩
  · refine jr_callM (st := [.int (0 : Int32), .ref a2]) lk_X0_84_0 (wX1_quiet a0 a1 S k_a0 h5) k_a0 rfl rfl rfl (so_le rfl) (so_le rfl) dX0_quiet_4 ?_
    refine jr_i2l dX0_quiet_7 ?_
    obtain ⟨g7, hf⟩ := so_gdE hf
    refine jr_lastore (so_m1 k_a2) (so_inE g7) dX0_quiet_8 ?_
    refine so_let_e hf (fun S8 hf => ?_)
    refine jr_goto (tgt := 15) dX0_quiet_9 rfl ?_
    refine jr_iconst dX0_quiet_15 ic_0 ?_
    obtain ⟨rfl, rfl⟩ := so_e2 hf
    exact jr_iret rfl rfl dX0_quiet_16
  · refine jr_callMX (st := [.int (0 : Int32), .ref a2]) lk_X0_84_0 (wX1_quiet a0 a1 S k_a0 h5) k_a0 rfl rfl rfl (so_le rfl) (so_le rfl) dX0_quiet_4 ?_
    by_cases c6 : x3 % 64 = 28
    · have hf := so_t c6 hf
      refine jr_catch (by rw [c6]; decide) (by rw [c6]; decide) [] ⟨0, 9, 12, 31⟩ [] rfl (fun _ h => by cases h) rfl (by decide) q1698 (by rw [c6]; exact q1713) ?_
      refine jr_astore_n (lv' := [(0, .ref a0), (1, .int a1), (2, .ref a2), (3, .ref x3)]) dX0_quiet_12 rfl (so_le rfl) jv_rr rfl ?_
      refine jr_iconst dX0_quiet_13 ic_1 ?_
      obtain ⟨rfl, rfl⟩ := so_e2 hf
      exact jr_iret rfl rfl dX0_quiet_14
    · have hf := so_f c6 hf
      exact so_no hf

/- X1_oldest -/
abbrev kX1_oldest : jx_K := (cX1_oldest, 4, RX1, 7, (Option.some Jvm.ClassFile.FieldType.int), "oldest", [])
def LX1_oldest_12 (f0 : Nat) (f1 : Int32) (k67 : Int32 → so_St → Option ((Int32 ⊕ Nat) × so_St)) : Nat → Int32 → Int32 → so_St → Option ((Int32 ⊕ Nat) × so_St)
  | 0, _, _, _ => none
  | n + 1, v7, v8, S9 =>
    (fX1_pianos f0 S9).bind fun r11 =>
    if r11 ≤ v8 then
    (k67 v7 S9)
    else
    ((so_rk (so_R S9 f0 5) [22]).bind fun p13 =>
    (so_rk (so_R S9 p13 0) [50]).bind fun p15 =>
    so_gd (so_in v8 (so_l S9 p15)) fun _ =>
    so_j (κ := Int32 → Option ((Int32 ⊕ Nat) × so_St)) (ρ := Option ((Int32 ⊕ Nat) × so_St)) (fun (v18 : Int32) =>
    LX1_oldest_12 f0 f1 k67 n v18 (v8 + (1 : Int32)) S9)
    (fun J19 =>
    if (so_I S9 p15 v8.toNatClampNeg) = (-1 : Int32) then
    (J19 v7)
    else
    (so_j (κ := Unit → Option ((Int32 ⊕ Nat) × so_St)) (ρ := Option ((Int32 ⊕ Nat) × so_St)) (fun (_u : Unit) =>
    J19 v8)
    (fun J21 =>
    if v7 = (-1 : Int32) then
    (J21 ())
    else
    ((so_rk (so_R S9 f0 5) [22]).bind fun p23 =>
    (so_rk (so_R S9 p23 2) [50]).bind fun p25 =>
    so_gd (so_in v8 (so_l S9 p25)) fun _ =>
    (so_rk (so_R S9 f0 5) [22]).bind fun p28 =>
    (so_rk (so_R S9 p28 2) [50]).bind fun p30 =>
    so_gd (so_in v7 (so_l S9 p30)) fun _ =>
    if (so_I S9 p25 v8.toNatClampNeg) ≤ (so_I S9 p30 v7.toNatClampNeg) then
    (J19 v7)
    else
    (J21 ()))))))
set_option maxHeartbeats 4000000 in
set_option maxRecDepth 100000 in
theorem wX1_oldest_12 {res : Int32 ⊕ Nat} {S' : so_St} {S0 : so_St}   (f0 : Nat) (f1 : Int32)   (k_f0 : f0 % 64 ∈ [0]) (k67 : Int32 → so_St → Option ((Int32 ⊕ Nat) × so_St)) (h67 : ∀ (v34 : Int32) (S35 : so_St), k67 v34 S35 = some (res, S') → jg_ (S0, S', so_oi res) kX1_oldest 67 [(0, .ref f0), (1, .int f1), (2, .int v34)] [] S35) : ∀ (n : Nat) (v7 : Int32) (v8 : Int32) (S9 : so_St), LX1_oldest_12 f0 f1 k67 n v7 v8 S9 = some (res, S') → jg_ (S0, S', so_oi res) kX1_oldest 12 [(0, .ref f0), (1, .int f1), (2, .int v7), (3, .int v8)] [] S9 := by
  intro n
  induction n with
  | zero =>
    intro v7 v8 S9 hf
    exact so_no hf
  | succ n ih =>
    intro v7 v8 S9 hf
    rw [LX1_oldest_12] at hf
    refine jr_iload_n dX1_oldest_12 rfl rfl ?_
    refine jr_aload_n dX1_oldest_13 rfl rfl jv_rr ?_
    obtain ⟨r11, h10, hf⟩ := so_b hf
    refine jr_callM (st := [.int v8]) lk_X1_156_0 (wX1_pianos f0 S9 k_f0 h10) k_f0 rfl rfl rfl (so_le rfl) (so_le rfl) dX1_oldest_14 ?_
    refine jr_icmp_ge (tgt := 67) dX1_oldest_17 rfl (fun c12 => ?_) (fun c12 => ?_)
    · have hf := so_t c12 hf
      refine jr_sub [0, 1, 2] rfl ?_
      exact h67 v7 S9 hf
    · have hf := so_f c12 hf
      refine jr_aload_n dX1_oldest_20 rfl rfl jv_rr ?_
      refine jr_getR fl_X1_49_0 k_f0 (so_n26 rfl) dX1_oldest_21 ?_
      obtain ⟨p13, h14, hf⟩ := so_b hf
      obtain ⟨h14, k_p13⟩ := so_rk_s h14
      refine jr_rf h14 ?_
      refine jr_getR fl_X1_239_22 k_p13 (so_n26 rfl) dX1_oldest_24 ?_
      obtain ⟨p15, h16, hf⟩ := so_b hf
      obtain ⟨h16, k_p15⟩ := so_rk_s h16
      refine jr_rf h16 ?_
      refine jr_iload_n dX1_oldest_27 rfl rfl ?_
      obtain ⟨g17, hf⟩ := so_gdE hf
      refine jr_iaload (so_m1 k_p15) (so_inE g17) dX1_oldest_28 ?_
      refine jr_iconst dX1_oldest_29 ic_m1 ?_
      refine so_jE hf (fun J => ∀ (v18 : Int32), J v18 = some (res, S') → jg_ (S0, S', so_oi res) kX1_oldest 61 [(0, .ref f0), (1, .int f1), (2, .int v18), (3, .int v8)] [] S9) (fun v18 hf => ?_) (fun J19 hJ19 hf => ?_)
      · refine jr_iinc (v := v8 + (1 : Int32)) (lv' := [(0, .ref f0), (1, .int f1), (2, .int v18), (3, .int (v8 + (1 : Int32)))]) dX1_oldest_61 rfl rfl (so_le rfl) rfl ?_
        refine jr_goto (tgt := 12) dX1_oldest_64 rfl ?_
        exact ih v18 (v8 + (1 : Int32)) S9 hf
      · refine jr_icmp_eq (tgt := 61) dX1_oldest_30 rfl (fun c20 => ?_) (fun c20 => ?_)
        · have hf := so_t c20 hf
          exact hJ19 v7 hf
        · have hf := so_f c20 hf
          refine jr_iload_n dX1_oldest_33 rfl rfl ?_
          refine jr_iconst dX1_oldest_34 ic_m1 ?_
          refine so_jE hf (fun J => ∀ (u0 : Unit), J u0 = some (res, S') → jg_ (S0, S', so_oi res) kX1_oldest 59 [(0, .ref f0), (1, .int f1), (3, .int v8)] [] S9) (fun _u hf => ?_) (fun J21 hJ21 hf => ?_)
          · refine jr_iload_n dX1_oldest_59 rfl rfl ?_
            refine jr_istore_n (lv' := [(0, .ref f0), (1, .int f1), (2, .int v8), (3, .int v8)]) dX1_oldest_60 rfl (so_le rfl) rfl ?_
            exact hJ19 v8 hf
          · refine jr_icmp_eq (tgt := 59) dX1_oldest_35 rfl (fun c22 => ?_) (fun c22 => ?_)
            · have hf := so_t c22 hf
              refine jr_sub [0, 1, 3] rfl ?_
              exact hJ21 () hf
            · have hf := so_f c22 hf
              refine jr_aload_n dX1_oldest_38 rfl rfl jv_rr ?_
              refine jr_getR fl_X1_49_0 k_f0 (so_n26 rfl) dX1_oldest_39 ?_
              obtain ⟨p23, h24, hf⟩ := so_b hf
              obtain ⟨h24, k_p23⟩ := so_rk_s h24
              refine jr_rf h24 ?_
              refine jr_getR fl_X1_320_22 k_p23 (so_n26 rfl) dX1_oldest_42 ?_
              obtain ⟨p25, h26, hf⟩ := so_b hf
              obtain ⟨h26, k_p25⟩ := so_rk_s h26
              refine jr_rf h26 ?_
              refine jr_iload_n dX1_oldest_45 rfl rfl ?_
              obtain ⟨g27, hf⟩ := so_gdE hf
              refine jr_iaload (so_m1 k_p25) (so_inE g27) dX1_oldest_46 ?_
              refine jr_aload_n dX1_oldest_47 rfl rfl jv_rr ?_
              refine jr_getR fl_X1_49_0 k_f0 (so_n26 rfl) dX1_oldest_48 ?_
              obtain ⟨p28, h29, hf⟩ := so_b hf
              obtain ⟨h29, k_p28⟩ := so_rk_s h29
              refine jr_rf h29 ?_
              refine jr_getR fl_X1_320_22 k_p28 (so_n26 rfl) dX1_oldest_51 ?_
              obtain ⟨p30, h31, hf⟩ := so_b hf
              obtain ⟨h31, k_p30⟩ := so_rk_s h31
              refine jr_rf h31 ?_
              refine jr_iload_n dX1_oldest_54 rfl rfl ?_
              obtain ⟨g32, hf⟩ := so_gdE hf
              refine jr_iaload (so_m1 k_p30) (so_inE g32) dX1_oldest_55 ?_
              refine jr_icmp_le (tgt := 61) dX1_oldest_56 rfl (fun c33 => ?_) (fun c33 => ?_)
              · have hf := so_t c33 hf
                exact hJ19 v7 hf
              · have hf := so_f c33 hf
                refine jr_sub [0, 1, 3] rfl ?_
                exact hJ21 () hf
def fX1_oldest (a0 : Nat) (a1 : Int32) (S : so_St) : Option ((Int32 ⊕ Nat) × so_St) :=
  so_b3 (fX1_need a0 (fX1_isPart a1) S) (fun r1 S2 =>
  LX1_oldest_12 a0 a1 (fun (v36 : Int32) (S37 : so_St) =>
  if a1 = (0 : Int32) then
  (some (.inl v36, S37))
  else
  (if v36 = (-1 : Int32) then
  (some (.inl v36, S37))
  else
  ((so_rk (so_R S37 a0 5) [22]).bind fun p40 =>
  (so_rk (so_R S37 p40 2) [50]).bind fun p42 =>
  so_gd (so_in v36 (so_l S37 p42)) fun _ =>
  some (.inl (so_I S37 p42 v36.toNatClampNeg), S37)))) so_N (-1 : Int32) (0 : Int32) S2)
  (fun x3 S4 =>
  so_gd (decide (x3 % 64 ∈ [27])) fun _ =>
  some (.inr x3, S4))
set_option maxHeartbeats 4000000 in
set_option maxRecDepth 100000 in
theorem wX1_oldest {res : Int32 ⊕ Nat} {S' : so_St}  (a0 : Nat) (a1 : Int32)  (S : so_St) (k_a0 : a0 % 64 ∈ [0]) (hf : fX1_oldest a0 a1 S = some (res, S')) : jx_Sp 7 yX1_oldest (ws_ yX1_oldest cX1_oldest 4 (Option.some Jvm.ClassFile.FieldType.int)) [.ref a0, .int a1] S (so_oi res) S' := by
  refine jx_of (plainFor_of_name (by decide)) (so_le rfl) ?_
  show jg_ (S, S', so_oi res) kX1_oldest 0 [(0, .ref a0), (1, .int a1)] [] S
  unfold fX1_oldest at hf
  refine jr_aload_n dX1_oldest_0 rfl rfl jv_rr ?_
  refine jr_iload_n dX1_oldest_1 rfl rfl ?_
  refine jr_call (st := [.ref a0]) lk_X1_296 (wX1_isPart a1 S rfl) jk_r0 rfl rfl (so_le rfl) (so_le rfl) dX1_oldest_2 ?_
  rcases so_b3E hf with ⟨r1, S2, h5, hf⟩ | ⟨x3, S4, h5, hf⟩
  · refine jr_callM (st := []) lk_X1_172_0 (wX1_need a0 (fX1_isPart a1) S k_a0 h5) k_a0 rfl rfl rfl (so_le rfl) (so_le rfl) dX1_oldest_5 ?_
    refine jr_iconst dX1_oldest_8 ic_m1 ?_
    refine jr_istore_n (lv' := [(0, .ref a0), (1, .int a1), (2, .int (-1 : Int32))]) dX1_oldest_9 rfl (so_le rfl) rfl ?_
    refine jr_iconst dX1_oldest_10 ic_0 ?_
    refine jr_istore_n (lv' := [(0, .ref a0), (1, .int a1), (2, .int (-1 : Int32)), (3, .int (0 : Int32))]) dX1_oldest_11 rfl (so_le rfl) rfl ?_
    refine wX1_oldest_12 a0 a1 k_a0 _ (fun v36 S37 hf => ?_) so_N (-1 : Int32) (0 : Int32) S2 hf
    refine jr_iload_n dX1_oldest_67 rfl rfl ?_
    refine jr_if_eq (tgt := 76) dX1_oldest_68 rfl (fun c38 => ?_) (fun c38 => ?_)
    · have hf := so_t c38 hf
      refine jr_iload_n dX1_oldest_76 rfl rfl ?_
      refine jr_goto (tgt := 89) dX1_oldest_77 rfl ?_
      obtain ⟨rfl, rfl⟩ := so_e2 hf
      exact jr_iret rfl rfl dX1_oldest_89
    · have hf := so_f c38 hf
      refine jr_iload_n dX1_oldest_71 rfl rfl ?_
      refine jr_iconst dX1_oldest_72 ic_m1 ?_
      refine jr_icmp_ne (tgt := 80) dX1_oldest_73 rfl (fun c39 => ?_) (fun c39 => ?_)
      · have hf := so_f c39 hf
        refine jr_aload_n dX1_oldest_80 rfl rfl jv_rr ?_
        refine jr_getR fl_X1_49_0 k_a0 (so_n26 rfl) dX1_oldest_81 ?_
        obtain ⟨p40, h41, hf⟩ := so_b hf
        obtain ⟨h41, k_p40⟩ := so_rk_s h41
        refine jr_rf h41 ?_
        refine jr_getR fl_X1_320_22 k_p40 (so_n26 rfl) dX1_oldest_84 ?_
        obtain ⟨p42, h43, hf⟩ := so_b hf
        obtain ⟨h43, k_p42⟩ := so_rk_s h43
        refine jr_rf h43 ?_
        refine jr_iload_n dX1_oldest_87 rfl rfl ?_
        obtain ⟨g44, hf⟩ := so_gdE hf
        refine jr_iaload (so_m1 k_p42) (so_inE g44) dX1_oldest_88 ?_
        obtain ⟨rfl, rfl⟩ := so_e2 hf
        exact jr_iret rfl rfl dX1_oldest_89
      · have hf := so_t c39 hf
        refine jr_iload_n dX1_oldest_76 rfl rfl ?_
        refine jr_goto (tgt := 89) dX1_oldest_77 rfl ?_
        obtain ⟨rfl, rfl⟩ := so_e2 hf
        exact jr_iret rfl rfl dX1_oldest_89
  · refine jr_callMX (st := []) lk_X1_172_0 (wX1_need a0 (fX1_isPart a1) S k_a0 h5) k_a0 rfl rfl rfl (so_le rfl) (so_le rfl) dX1_oldest_5 ?_
    obtain ⟨g6, hf⟩ := so_gdE hf
    obtain ⟨rfl, rfl⟩ := so_e2 hf
    exact jr_out (so_l29 (of_decide_eq_true g6) rfl).1 (so_l29 (of_decide_eq_true g6) rfl).2 rfl

/- X0_oldest -/
abbrev kX0_oldest : jx_K := (cX0_oldest, 4, RX0, 8, (Option.some Jvm.ClassFile.FieldType.int), "oldest", tableOf [(0, 9, 12, 13)])
def fX0_oldest (a0 : Nat) (a1 : Int32) (a2 : Nat) (S : so_St) : Option (Int32 × so_St) :=
  so_b3 (fX1_oldest a0 a1 S) (fun r1 S2 =>
  so_gd (so_in (0 : Int32) (so_l S2 a2)) fun _ =>
  so_let (so_sL S2 a2 (0 : Int32).toNatClampNeg r1.toInt64) fun S8 =>
  some ((0 : Int32), S8))
  (fun x3 S4 =>
  if x3 % 64 = 27 then
  (some ((1 : Int32), S4))
  else
  none)
set_option maxHeartbeats 4000000 in
set_option maxRecDepth 100000 in
theorem wX0_oldest {res : Int32} {S' : so_St}  (a0 : Nat) (a1 : Int32) (a2 : Nat)  (S : so_St) (k_a0 : a0 % 64 ∈ [0]) (k_a2 : a2 % 64 ∈ [53]) (hf : fX0_oldest a0 a1 a2 S = some (res, S')) : jx_Sp 8 yX0_oldest (wsW_ yX0_oldest cX0_oldest 4 (Option.some Jvm.ClassFile.FieldType.int) [(0, 9, 12, 13)]) [.ref a0, .int a1, .ref a2] S (.inl (some (.int res))) S' := by
  refine jx_ofW (by decide) (so_le rfl) ?_
  show jg_ (S, S', .inl (some (.int res))) kX0_oldest 0 [(0, .ref a0), (1, .int a1), (2, .ref a2)] [] S
  unfold fX0_oldest at hf
  refine jr_aload_n dX0_oldest_0 rfl rfl jv_rr ?_
  refine jr_iconst dX0_oldest_1 ic_0 ?_
  refine jr_aload_n dX0_oldest_2 rfl rfl jv_rr ?_
  refine jr_iload_n dX0_oldest_3 rfl rfl ?_
  rcases so_b3E hf with ⟨r1, S2, h5, hf⟩ | ⟨x3, S4, h5, hf⟩
  · refine jr_callM (st := [.int (0 : Int32), .ref a2]) lk_X0_87_0 (wX1_oldest a0 a1 S k_a0 h5) k_a0 rfl rfl rfl (so_le rfl) (so_le rfl) dX0_oldest_4 ?_
    refine jr_i2l dX0_oldest_7 ?_
    obtain ⟨g7, hf⟩ := so_gdE hf
    refine jr_lastore (so_m1 k_a2) (so_inE g7) dX0_oldest_8 ?_
    refine so_let_e hf (fun S8 hf => ?_)
    refine jr_goto (tgt := 15) dX0_oldest_9 rfl ?_
    refine jr_iconst dX0_oldest_15 ic_0 ?_
    obtain ⟨rfl, rfl⟩ := so_e2 hf
    exact jr_iret rfl rfl dX0_oldest_16
  · refine jr_callMX (st := [.int (0 : Int32), .ref a2]) lk_X0_87_0 (wX1_oldest a0 a1 S k_a0 h5) k_a0 rfl rfl rfl (so_le rfl) (so_le rfl) dX0_oldest_4 ?_
    by_cases c6 : x3 % 64 = 27
    · have hf := so_t c6 hf
      refine jr_catch (by rw [c6]; decide) (by rw [c6]; decide) [] ⟨0, 9, 12, 13⟩ [] rfl (fun _ h => by cases h) rfl (by decide) q863 (by rw [c6]; exact q181) ?_
      refine jr_astore_n (lv' := [(0, .ref a0), (1, .int a1), (2, .ref a2), (3, .ref x3)]) dX0_oldest_12 rfl (so_le rfl) jv_rr rfl ?_
      refine jr_iconst dX0_oldest_13 ic_1 ?_
      obtain ⟨rfl, rfl⟩ := so_e2 hf
      exact jr_iret rfl rfl dX0_oldest_14
    · have hf := so_f c6 hf
      exact so_no hf

/- X1_margin -/
abbrev kX1_margin : jx_K := (cX1_margin, 5, RX1, 8, (Option.some Jvm.ClassFile.FieldType.int), "margin", [])
def LX1_margin_19 (f0 : Nat) (f1 : Int32) (f2 : Int32) (k58 : Int32 → so_St → Option ((Int32 ⊕ Nat) × so_St)) : Nat → Int32 → Int32 → so_St → Option ((Int32 ⊕ Nat) × so_St)
  | 0, _, _, _ => none
  | n + 1, v11, v12, S13 =>
    if (10 : Int32) ≤ v12 then
    (k58 v11 S13)
    else
    (so_j (κ := Int32 → Option ((Int32 ⊕ Nat) × so_St)) (ρ := Option ((Int32 ⊕ Nat) × so_St)) (fun (v15 : Int32) =>
    LX1_margin_19 f0 f1 f2 k58 n v15 (v12 + (1 : Int32)) S13)
    (fun J16 =>
    if v12 = f2 then
    (J16 v11)
    else
    ((so_rk (so_R S13 f0 5) [22]).bind fun p18 =>
    (so_rk (so_R S13 p18 3) [50]).bind fun p20 =>
    so_gd (so_in (((10 : Int32) * f1) + v12) (so_l S13 p20)) fun _ =>
    J16 (fJ12_max v11 (so_I S13 p20 (((10 : Int32) * f1) + v12).toNatClampNeg)))))
set_option maxHeartbeats 4000000 in
set_option maxRecDepth 100000 in
theorem wX1_margin_19 {res : Int32 ⊕ Nat} {S' : so_St} {S0 : so_St}   (f0 : Nat) (f1 : Int32) (f2 : Int32)   (k_f0 : f0 % 64 ∈ [0]) (k58 : Int32 → so_St → Option ((Int32 ⊕ Nat) × so_St)) (h58 : ∀ (v23 : Int32) (S24 : so_St), k58 v23 S24 = some (res, S') → jg_ (S0, S', so_oi res) kX1_margin 58 [(0, .ref f0), (1, .int f1), (2, .int f2), (3, .int v23)] [] S24) : ∀ (n : Nat) (v11 : Int32) (v12 : Int32) (S13 : so_St), LX1_margin_19 f0 f1 f2 k58 n v11 v12 S13 = some (res, S') → jg_ (S0, S', so_oi res) kX1_margin 19 [(0, .ref f0), (1, .int f1), (2, .int f2), (3, .int v11), (4, .int v12)] [] S13 := by
  intro n
  induction n with
  | zero =>
    intro v11 v12 S13 hf
    exact so_no hf
  | succ n ih =>
    intro v11 v12 S13 hf
    rw [LX1_margin_19] at hf
    refine jr_iload dX1_margin_19 rfl ?_
    refine jr_bipush dX1_margin_21 bp_10 ?_
    refine jr_icmp_ge (tgt := 58) dX1_margin_23 rfl (fun c14 => ?_) (fun c14 => ?_)
    · have hf := so_t c14 hf
      refine jr_sub [0, 1, 2, 3] rfl ?_
      exact h58 v11 S13 hf
    · have hf := so_f c14 hf
      refine jr_iload dX1_margin_26 rfl ?_
      refine jr_iload_n dX1_margin_28 rfl rfl ?_
      refine so_jE hf (fun J => ∀ (v15 : Int32), J v15 = some (res, S') → jg_ (S0, S', so_oi res) kX1_margin 52 [(0, .ref f0), (1, .int f1), (2, .int f2), (3, .int v15), (4, .int v12)] [] S13) (fun v15 hf => ?_) (fun J16 hJ16 hf => ?_)
      · refine jr_iinc (v := v12 + (1 : Int32)) (lv' := [(0, .ref f0), (1, .int f1), (2, .int f2), (3, .int v15), (4, .int (v12 + (1 : Int32)))]) dX1_margin_52 rfl rfl (so_le rfl) rfl ?_
        refine jr_goto (tgt := 19) dX1_margin_55 rfl ?_
        exact ih v15 (v12 + (1 : Int32)) S13 hf
      · refine jr_icmp_eq (tgt := 52) dX1_margin_29 rfl (fun c17 => ?_) (fun c17 => ?_)
        · have hf := so_t c17 hf
          exact hJ16 v11 hf
        · have hf := so_f c17 hf
          refine jr_iload_n dX1_margin_32 rfl rfl ?_
          refine jr_aload_n dX1_margin_33 rfl rfl jv_rr ?_
          refine jr_getR fl_X1_49_0 k_f0 (so_n26 rfl) dX1_margin_34 ?_
          obtain ⟨p18, h19, hf⟩ := so_b hf
          obtain ⟨h19, k_p18⟩ := so_rk_s h19
          refine jr_rf h19 ?_
          refine jr_getR fl_X1_286_22 k_p18 (so_n26 rfl) dX1_margin_37 ?_
          obtain ⟨p20, h21, hf⟩ := so_b hf
          obtain ⟨h21, k_p20⟩ := so_rk_s h21
          refine jr_rf h21 ?_
          refine jr_bipush dX1_margin_40 bp_10 ?_
          refine jr_iload_n dX1_margin_42 rfl rfl ?_
          refine jr_imul dX1_margin_43 ?_
          refine jr_iload dX1_margin_44 rfl ?_
          refine jr_iadd dX1_margin_46 ?_
          obtain ⟨g22, hf⟩ := so_gdE hf
          refine jr_iaload (so_m1 k_p20) (so_inE g22) dX1_margin_47 ?_
          refine jr_call (st := []) lk_X1_140 (wJ12_max v11 (so_I S13 p20 (((10 : Int32) * f1) + v12).toNatClampNeg) S13 rfl) jk_r0 rfl rfl (so_le rfl) (so_le rfl) dX1_margin_48 ?_
          refine jr_istore_n (lv' := [(0, .ref f0), (1, .int f1), (2, .int f2), (3, .int (fJ12_max v11 (so_I S13 p20 (((10 : Int32) * f1) + v12).toNatClampNeg))), (4, .int v12)]) dX1_margin_51 rfl (so_le rfl) rfl ?_
          exact hJ16 (fJ12_max v11 (so_I S13 p20 (((10 : Int32) * f1) + v12).toNatClampNeg)) hf
def fX1_margin (a0 : Nat) (a1 : Int32) (S : so_St) : Option ((Int32 ⊕ Nat) × so_St) :=
  so_b3 (fX1_needHouse a0 a1 S) (fun r1 S2 =>
  (so_rk (so_R S2 a0 5) [22]).bind fun p7 =>
  (fX7_is p7 a1 S2).bind fun r10 =>
  LX1_margin_19 a0 a1 r10 (fun (v25 : Int32) (S26 : so_St) =>
  (so_rk (so_R S26 a0 5) [22]).bind fun p27 =>
  (so_rk (so_R S26 p27 3) [50]).bind fun p29 =>
  so_gd (so_in (((10 : Int32) * a1) + r10) (so_l S26 p29)) fun _ =>
  some (.inl ((so_I S26 p29 (((10 : Int32) * a1) + r10).toNatClampNeg) - v25), S26)) so_N (0 : Int32) (0 : Int32) S2)
  (fun x3 S4 =>
  so_gd (decide (x3 % 64 ∈ [28])) fun _ =>
  some (.inr x3, S4))
set_option maxHeartbeats 4000000 in
set_option maxRecDepth 100000 in
theorem wX1_margin {res : Int32 ⊕ Nat} {S' : so_St}  (a0 : Nat) (a1 : Int32)  (S : so_St) (k_a0 : a0 % 64 ∈ [0]) (hf : fX1_margin a0 a1 S = some (res, S')) : jx_Sp 8 yX1_margin (ws_ yX1_margin cX1_margin 5 (Option.some Jvm.ClassFile.FieldType.int)) [.ref a0, .int a1] S (so_oi res) S' := by
  refine jx_of (plainFor_of_name (by decide)) (so_le rfl) ?_
  show jg_ (S, S', so_oi res) kX1_margin 0 [(0, .ref a0), (1, .int a1)] [] S
  unfold fX1_margin at hf
  refine jr_aload_n dX1_margin_0 rfl rfl jv_rr ?_
  refine jr_iload_n dX1_margin_1 rfl rfl ?_
  rcases so_b3E hf with ⟨r1, S2, h5, hf⟩ | ⟨x3, S4, h5, hf⟩
  · refine jr_callM (st := []) lk_X1_274_0 (wX1_needHouse a0 a1 S k_a0 h5) k_a0 rfl rfl rfl (so_le rfl) (so_le rfl) dX1_margin_2 ?_
    refine jr_aload_n dX1_margin_5 rfl rfl jv_rr ?_
    refine jr_getR fl_X1_49_0 k_a0 (so_n26 rfl) dX1_margin_6 ?_
    obtain ⟨p7, h8, hf⟩ := so_b hf
    obtain ⟨h8, k_p7⟩ := so_rk_s h8
    refine jr_rf h8 ?_
    refine jr_iload_n dX1_margin_9 rfl rfl ?_
    obtain ⟨r10, h9, hf⟩ := so_b hf
    refine jr_callM (st := []) lk_X1_277_22 (wX7_is p7 a1 S2 k_p7 h9) k_p7 rfl rfl rfl (so_le rfl) (so_le rfl) dX1_margin_10 ?_
    refine jr_istore_n (lv' := [(0, .ref a0), (1, .int a1), (2, .int r10)]) dX1_margin_13 rfl (so_le rfl) rfl ?_
    refine jr_iconst dX1_margin_14 ic_0 ?_
    refine jr_istore_n (lv' := [(0, .ref a0), (1, .int a1), (2, .int r10), (3, .int (0 : Int32))]) dX1_margin_15 rfl (so_le rfl) rfl ?_
    refine jr_iconst dX1_margin_16 ic_0 ?_
    refine jr_istore (lv' := [(0, .ref a0), (1, .int a1), (2, .int r10), (3, .int (0 : Int32)), (4, .int (0 : Int32))]) dX1_margin_17 (so_le rfl) rfl ?_
    refine wX1_margin_19 a0 a1 r10 k_a0 _ (fun v25 S26 hf => ?_) so_N (0 : Int32) (0 : Int32) S2 hf
    refine jr_aload_n dX1_margin_58 rfl rfl jv_rr ?_
    refine jr_getR fl_X1_49_0 k_a0 (so_n26 rfl) dX1_margin_59 ?_
    obtain ⟨p27, h28, hf⟩ := so_b hf
    obtain ⟨h28, k_p27⟩ := so_rk_s h28
    refine jr_rf h28 ?_
    refine jr_getR fl_X1_286_22 k_p27 (so_n26 rfl) dX1_margin_62 ?_
    obtain ⟨p29, h30, hf⟩ := so_b hf
    obtain ⟨h30, k_p29⟩ := so_rk_s h30
    refine jr_rf h30 ?_
    refine jr_bipush dX1_margin_65 bp_10 ?_
    refine jr_iload_n dX1_margin_67 rfl rfl ?_
    refine jr_imul dX1_margin_68 ?_
    refine jr_iload_n dX1_margin_69 rfl rfl ?_
    refine jr_iadd dX1_margin_70 ?_
    obtain ⟨g31, hf⟩ := so_gdE hf
    refine jr_iaload (so_m1 k_p29) (so_inE g31) dX1_margin_71 ?_
    refine jr_iload_n dX1_margin_72 rfl rfl ?_
    refine jr_isub dX1_margin_73 ?_
    obtain ⟨rfl, rfl⟩ := so_e2 hf
    exact jr_iret rfl rfl dX1_margin_74
  · refine jr_callMX (st := []) lk_X1_274_0 (wX1_needHouse a0 a1 S k_a0 h5) k_a0 rfl rfl rfl (so_le rfl) (so_le rfl) dX1_margin_2 ?_
    obtain ⟨g6, hf⟩ := so_gdE hf
    obtain ⟨rfl, rfl⟩ := so_e2 hf
    exact jr_out (so_l29 (of_decide_eq_true g6) rfl).1 (so_l29 (of_decide_eq_true g6) rfl).2 rfl

/- X0_margin -/
abbrev kX0_margin : jx_K := (cX0_margin, 4, RX0, 9, (Option.some Jvm.ClassFile.FieldType.int), "margin", tableOf [(0, 9, 12, 31)])
def fX0_margin (a0 : Nat) (a1 : Int32) (a2 : Nat) (S : so_St) : Option (Int32 × so_St) :=
  so_b3 (fX1_margin a0 a1 S) (fun r1 S2 =>
  so_gd (so_in (0 : Int32) (so_l S2 a2)) fun _ =>
  so_let (so_sL S2 a2 (0 : Int32).toNatClampNeg r1.toInt64) fun S8 =>
  some ((0 : Int32), S8))
  (fun x3 S4 =>
  if x3 % 64 = 28 then
  (some ((1 : Int32), S4))
  else
  none)
set_option maxHeartbeats 4000000 in
set_option maxRecDepth 100000 in
theorem wX0_margin {res : Int32} {S' : so_St}  (a0 : Nat) (a1 : Int32) (a2 : Nat)  (S : so_St) (k_a0 : a0 % 64 ∈ [0]) (k_a2 : a2 % 64 ∈ [53]) (hf : fX0_margin a0 a1 a2 S = some (res, S')) : jx_Sp 9 yX0_margin (wsW_ yX0_margin cX0_margin 4 (Option.some Jvm.ClassFile.FieldType.int) [(0, 9, 12, 31)]) [.ref a0, .int a1, .ref a2] S (.inl (some (.int res))) S' := by
  refine jx_ofW (by decide) (so_le rfl) ?_
  show jg_ (S, S', .inl (some (.int res))) kX0_margin 0 [(0, .ref a0), (1, .int a1), (2, .ref a2)] [] S
  unfold fX0_margin at hf
  refine jr_aload_n dX0_margin_0 rfl rfl jv_rr ?_
  refine jr_iconst dX0_margin_1 ic_0 ?_
  refine jr_aload_n dX0_margin_2 rfl rfl jv_rr ?_
  refine jr_iload_n dX0_margin_3 rfl rfl ?_
  rcases so_b3E hf with ⟨r1, S2, h5, hf⟩ | ⟨x3, S4, h5, hf⟩
  · refine jr_callM (st := [.int (0 : Int32), .ref a2]) lk_X0_90_0 (wX1_margin a0 a1 S k_a0 h5) k_a0 rfl rfl rfl (so_le rfl) (so_le rfl) dX0_margin_4 ?_
    refine jr_i2l dX0_margin_7 ?_
    obtain ⟨g7, hf⟩ := so_gdE hf
    refine jr_lastore (so_m1 k_a2) (so_inE g7) dX0_margin_8 ?_
    refine so_let_e hf (fun S8 hf => ?_)
    refine jr_goto (tgt := 15) dX0_margin_9 rfl ?_
    refine jr_iconst dX0_margin_15 ic_0 ?_
    obtain ⟨rfl, rfl⟩ := so_e2 hf
    exact jr_iret rfl rfl dX0_margin_16
  · refine jr_callMX (st := [.int (0 : Int32), .ref a2]) lk_X0_90_0 (wX1_margin a0 a1 S k_a0 h5) k_a0 rfl rfl rfl (so_le rfl) (so_le rfl) dX0_margin_4 ?_
    by_cases c6 : x3 % 64 = 28
    · have hf := so_t c6 hf
      refine jr_catch (by rw [c6]; decide) (by rw [c6]; decide) [] ⟨0, 9, 12, 31⟩ [] rfl (fun _ h => by cases h) rfl (by decide) q1698 (by rw [c6]; exact q1713) ?_
      refine jr_astore_n (lv' := [(0, .ref a0), (1, .int a1), (2, .ref a2), (3, .ref x3)]) dX0_margin_12 rfl (so_le rfl) jv_rr rfl ?_
      refine jr_iconst dX0_margin_13 ic_1 ?_
      obtain ⟨rfl, rfl⟩ := so_e2 hf
      exact jr_iret rfl rfl dX0_margin_14
    · have hf := so_f c6 hf
      exact so_no hf

/- X1_tunes -/
abbrev kX1_tunes : jx_K := (cX1_tunes, 4, RX1, 1205, (Option.some Jvm.ClassFile.FieldType.int), "tunes", [])
def fX1_tunes (a0 : Nat) (a1 : Int32) (a2 : Int32) (S : so_St) : Option ((Int32 ⊕ Nat) × so_St) :=
  so_b3 (fX1_needPiano a0 a1 S) (fun r1 S2 =>
  so_b3 (fX1_needHouse a0 a2 S2) (fun r7 S8 =>
  (so_rk (so_R S8 a0 5) [22]).bind fun p13 =>
  (so_rk (so_R S8 p13 0) [50]).bind fun p15 =>
  so_gd (so_in a1 (so_l S8 p15)) fun _ =>
  if (so_I S8 p15 a1.toNatClampNeg) = a2 then
  ((so_rk (so_R S8 a0 5) [22]).bind fun p34 =>
  so_b2 (fX7_brings p34 a1 S8) fun r37 S38 =>
  some (.inl r37, S38))
  else
  ((so_rk (so_R S8 a0 6) [22]).bind fun p19 =>
  (so_rk (so_R S8 a0 5) [22]).bind fun p21 =>
  so_b2 (fX7_becomes p19 p21 S8) fun r24 S25 =>
  so_gd (decide (r24 % 64 ∈ [22])) fun _ =>
  so_b2 (fX7_puts r24 a1 a2 S25) fun r28 S29 =>
  if r28 = (0 : Int32) then
  (some (.inl (-1 : Int32), S29))
  else
  (so_b2 (fX7_brings r24 a1 S29) fun r32 S33 =>
  some (.inl r32, S33))))
  (fun x9 S10 =>
  so_gd (decide (x9 % 64 ∈ [28])) fun _ =>
  some (.inr x9, S10)))
  (fun x3 S4 =>
  so_gd (decide (x3 % 64 ∈ [28])) fun _ =>
  some (.inr x3, S4))
set_option maxHeartbeats 4000000 in
set_option maxRecDepth 100000 in
theorem wX1_tunes {res : Int32 ⊕ Nat} {S' : so_St}  (a0 : Nat) (a1 : Int32) (a2 : Int32)  (S : so_St) (k_a0 : a0 % 64 ∈ [0]) (hf : fX1_tunes a0 a1 a2 S = some (res, S')) : jx_Sp 1205 yX1_tunes (ws_ yX1_tunes cX1_tunes 4 (Option.some Jvm.ClassFile.FieldType.int)) [.ref a0, .int a1, .int a2] S (so_oi res) S' := by
  refine jx_of (plainFor_of_name (by decide)) (so_le rfl) ?_
  show jg_ (S, S', so_oi res) kX1_tunes 0 [(0, .ref a0), (1, .int a1), (2, .int a2)] [] S
  unfold fX1_tunes at hf
  refine jr_aload_n dX1_tunes_0 rfl rfl jv_rr ?_
  refine jr_iload_n dX1_tunes_1 rfl rfl ?_
  rcases so_b3E hf with ⟨r1, S2, h5, hf⟩ | ⟨x3, S4, h5, hf⟩
  · refine jr_callM (st := []) lk_X1_305_0 (wX1_needPiano a0 a1 S k_a0 h5) k_a0 rfl rfl rfl (so_le rfl) (so_le rfl) dX1_tunes_2 ?_
    refine jr_aload_n dX1_tunes_5 rfl rfl jv_rr ?_
    refine jr_iload_n dX1_tunes_6 rfl rfl ?_
    rcases so_b3E hf with ⟨r7, S8, h11, hf⟩ | ⟨x9, S10, h11, hf⟩
    · refine jr_callM (st := []) lk_X1_274_0 (wX1_needHouse a0 a2 S2 k_a0 h11) k_a0 rfl rfl rfl (so_le rfl) (so_le rfl) dX1_tunes_7 ?_
      refine jr_aload_n dX1_tunes_10 rfl rfl jv_rr ?_
      refine jr_getR fl_X1_49_0 k_a0 (so_n26 rfl) dX1_tunes_11 ?_
      obtain ⟨p13, h14, hf⟩ := so_b hf
      obtain ⟨h14, k_p13⟩ := so_rk_s h14
      refine jr_rf h14 ?_
      refine jr_getR fl_X1_239_22 k_p13 (so_n26 rfl) dX1_tunes_14 ?_
      obtain ⟨p15, h16, hf⟩ := so_b hf
      obtain ⟨h16, k_p15⟩ := so_rk_s h16
      refine jr_rf h16 ?_
      refine jr_iload_n dX1_tunes_17 rfl rfl ?_
      obtain ⟨g17, hf⟩ := so_gdE hf
      refine jr_iaload (so_m1 k_p15) (so_inE g17) dX1_tunes_18 ?_
      refine jr_iload_n dX1_tunes_19 rfl rfl ?_
      refine jr_icmp_ne (tgt := 32) dX1_tunes_20 rfl (fun c18 => ?_) (fun c18 => ?_)
      · have hf := so_f c18 hf
        refine jr_aload_n dX1_tunes_32 rfl rfl jv_rr ?_
        refine jr_getR fl_X1_53_0 k_a0 (so_n26 rfl) dX1_tunes_33 ?_
        obtain ⟨p19, h20, hf⟩ := so_b hf
        obtain ⟨h20, k_p19⟩ := so_rk_s h20
        refine jr_rf h20 ?_
        refine jr_aload_n dX1_tunes_36 rfl rfl jv_rr ?_
        refine jr_getR fl_X1_49_0 k_a0 (so_n26 rfl) dX1_tunes_37 ?_
        obtain ⟨p21, h22, hf⟩ := so_b hf
        obtain ⟨h22, k_p21⟩ := so_rk_s h22
        refine jr_rf h22 ?_
        obtain ⟨r24, S25, h23, hf⟩ := so_b2E hf
        obtain ⟨g26, hf⟩ := so_gdE hf
        refine jr_callM (st := []) lk_X1_235_22 (wX7_becomes p19 p21 S8 k_p19 k_p21 h23) k_p19 rfl rfl rfl (so_le rfl) (so_le rfl) dX1_tunes_40 ?_
        refine jr_astore_n (lv' := [(0, .ref a0), (1, .int a1), (2, .int a2), (3, .ref r24)]) dX1_tunes_43 rfl (so_le rfl) jv_rr rfl ?_
        refine jr_aload_n dX1_tunes_44 rfl rfl jv_rr ?_
        refine jr_iload_n dX1_tunes_45 rfl rfl ?_
        refine jr_iload_n dX1_tunes_46 rfl rfl ?_
        obtain ⟨r28, S29, h27, hf⟩ := so_b2E hf
        refine jr_callM (st := []) lk_X1_345_22 (wX7_puts r24 a1 a2 S25 (of_decide_eq_true g26) h27) (of_decide_eq_true g26) rfl rfl rfl (so_le rfl) (so_le rfl) dX1_tunes_47 ?_
        refine jr_if_eq (tgt := 61) dX1_tunes_50 rfl (fun c30 => ?_) (fun c30 => ?_)
        · have hf := so_t c30 hf
          refine jr_iconst dX1_tunes_61 ic_m1 ?_
          obtain ⟨rfl, rfl⟩ := so_e2 hf
          exact jr_iret rfl rfl dX1_tunes_62
        · have hf := so_f c30 hf
          refine jr_aload_n dX1_tunes_53 rfl rfl jv_rr ?_
          refine jr_iload_n dX1_tunes_54 rfl rfl ?_
          obtain ⟨r32, S33, h31, hf⟩ := so_b2E hf
          refine jr_callM (st := []) lk_X1_326_22 (wX7_brings r24 a1 S29 (of_decide_eq_true g26) h31) (of_decide_eq_true g26) rfl rfl rfl (so_le rfl) (so_le rfl) dX1_tunes_55 ?_
          refine jr_goto (tgt := 62) dX1_tunes_58 rfl ?_
          obtain ⟨rfl, rfl⟩ := so_e2 hf
          exact jr_iret rfl rfl dX1_tunes_62
      · have hf := so_t c18 hf
        refine jr_aload_n dX1_tunes_23 rfl rfl jv_rr ?_
        refine jr_getR fl_X1_49_0 k_a0 (so_n26 rfl) dX1_tunes_24 ?_
        obtain ⟨p34, h35, hf⟩ := so_b hf
        obtain ⟨h35, k_p34⟩ := so_rk_s h35
        refine jr_rf h35 ?_
        refine jr_iload_n dX1_tunes_27 rfl rfl ?_
        obtain ⟨r37, S38, h36, hf⟩ := so_b2E hf
        refine jr_callM (st := []) lk_X1_326_22 (wX7_brings p34 a1 S8 k_p34 h36) k_p34 rfl rfl rfl (so_le rfl) (so_le rfl) dX1_tunes_28 ?_
        obtain ⟨rfl, rfl⟩ := so_e2 hf
        exact jr_iret rfl rfl dX1_tunes_31
    · refine jr_callMX (st := []) lk_X1_274_0 (wX1_needHouse a0 a2 S2 k_a0 h11) k_a0 rfl rfl rfl (so_le rfl) (so_le rfl) dX1_tunes_7 ?_
      obtain ⟨g12, hf⟩ := so_gdE hf
      obtain ⟨rfl, rfl⟩ := so_e2 hf
      exact jr_out (so_l29 (of_decide_eq_true g12) rfl).1 (so_l29 (of_decide_eq_true g12) rfl).2 rfl
  · refine jr_callMX (st := []) lk_X1_305_0 (wX1_needPiano a0 a1 S k_a0 h5) k_a0 rfl rfl rfl (so_le rfl) (so_le rfl) dX1_tunes_2 ?_
    obtain ⟨g6, hf⟩ := so_gdE hf
    obtain ⟨rfl, rfl⟩ := so_e2 hf
    exact jr_out (so_l29 (of_decide_eq_true g6) rfl).1 (so_l29 (of_decide_eq_true g6) rfl).2 rfl

/- X0_tunes -/
abbrev kX0_tunes : jx_K := (cX0_tunes, 5, RX0, 1206, (Option.some Jvm.ClassFile.FieldType.int), "tunes", tableOf [(0, 10, 13, 31)])
def fX0_tunes (a0 : Nat) (a1 : Int32) (a2 : Int32) (a3 : Nat) (S : so_St) : Option (Int32 × so_St) :=
  so_b3 (fX1_tunes a0 a1 a2 S) (fun r1 S2 =>
  so_gd (so_in (0 : Int32) (so_l S2 a3)) fun _ =>
  so_let (so_sL S2 a3 (0 : Int32).toNatClampNeg r1.toInt64) fun S8 =>
  some ((0 : Int32), S8))
  (fun x3 S4 =>
  if x3 % 64 = 28 then
  (some ((1 : Int32), S4))
  else
  none)
set_option maxHeartbeats 4000000 in
set_option maxRecDepth 100000 in
theorem wX0_tunes {res : Int32} {S' : so_St}  (a0 : Nat) (a1 : Int32) (a2 : Int32) (a3 : Nat)  (S : so_St) (k_a0 : a0 % 64 ∈ [0]) (k_a3 : a3 % 64 ∈ [53]) (hf : fX0_tunes a0 a1 a2 a3 S = some (res, S')) : jx_Sp 1206 yX0_tunes (wsW_ yX0_tunes cX0_tunes 5 (Option.some Jvm.ClassFile.FieldType.int) [(0, 10, 13, 31)]) [.ref a0, .int a1, .int a2, .ref a3] S (.inl (some (.int res))) S' := by
  refine jx_ofW (by decide) (so_le rfl) ?_
  show jg_ (S, S', .inl (some (.int res))) kX0_tunes 0 [(0, .ref a0), (1, .int a1), (2, .int a2), (3, .ref a3)] [] S
  unfold fX0_tunes at hf
  refine jr_aload_n dX0_tunes_0 rfl rfl jv_rr ?_
  refine jr_iconst dX0_tunes_1 ic_0 ?_
  refine jr_aload_n dX0_tunes_2 rfl rfl jv_rr ?_
  refine jr_iload_n dX0_tunes_3 rfl rfl ?_
  refine jr_iload_n dX0_tunes_4 rfl rfl ?_
  rcases so_b3E hf with ⟨r1, S2, h5, hf⟩ | ⟨x3, S4, h5, hf⟩
  · refine jr_callM (st := [.int (0 : Int32), .ref a3]) lk_X0_93_0 (wX1_tunes a0 a1 a2 S k_a0 h5) k_a0 rfl rfl rfl (so_le rfl) (so_le rfl) dX0_tunes_5 ?_
    refine jr_i2l dX0_tunes_8 ?_
    obtain ⟨g7, hf⟩ := so_gdE hf
    refine jr_lastore (so_m1 k_a3) (so_inE g7) dX0_tunes_9 ?_
    refine so_let_e hf (fun S8 hf => ?_)
    refine jr_goto (tgt := 17) dX0_tunes_10 rfl ?_
    refine jr_iconst dX0_tunes_17 ic_0 ?_
    obtain ⟨rfl, rfl⟩ := so_e2 hf
    exact jr_iret rfl rfl dX0_tunes_18
  · refine jr_callMX (st := [.int (0 : Int32), .ref a3]) lk_X0_93_0 (wX1_tunes a0 a1 a2 S k_a0 h5) k_a0 rfl rfl rfl (so_le rfl) (so_le rfl) dX0_tunes_5 ?_
    by_cases c6 : x3 % 64 = 28
    · have hf := so_t c6 hf
      refine jr_catch (by rw [c6]; decide) (by rw [c6]; decide) [] ⟨0, 10, 13, 31⟩ [] rfl (fun _ h => by cases h) rfl (by decide) q1698 (by rw [c6]; exact q1713) ?_
      refine jr_astore (lv' := [(0, .ref a0), (1, .int a1), (2, .int a2), (3, .ref a3), (4, .ref x3)]) dX0_tunes_13 (so_le rfl) jv_rr rfl ?_
      refine jr_iconst dX0_tunes_15 ic_1 ?_
      obtain ⟨rfl, rfl⟩ := so_e2 hf
      exact jr_iret rfl rfl dX0_tunes_16
    · have hf := so_f c6 hf
      exact so_no hf

/- X1_isYear -/
abbrev kX1_isYear : jx_K := (cX1_isYear, 2, RX1, 1, (Option.some Jvm.ClassFile.FieldType.boolean), "isYear", [])
def fX1_isYear (a0 : Int32) (a1 : Int32) : Int32 :=
  if (fX1_isIn a0 (1 : Int32) (96 : Int32)) = (0 : Int32) then
  ((0 : Int32))
  else
  (if (fX1_isIn a1 (0 : Int32) (16 : Int32)) = (0 : Int32) then
  ((0 : Int32))
  else
  ((1 : Int32)))
set_option maxHeartbeats 4000000 in
set_option maxRecDepth 100000 in
theorem wX1_isYear {res : Int32}  (a0 : Int32) (a1 : Int32)  (S : so_St)  (hf : fX1_isYear a0 a1 = res) : jx_Sp 1 yX1_isYear (ws_ yX1_isYear cX1_isYear 2 (Option.some Jvm.ClassFile.FieldType.boolean)) [.int a0, .int a1] S (.inl (some (.int res))) S := by
  refine jx_of (plainFor_of_name (by decide)) (so_le rfl) ?_
  show jg_ (S, S, .inl (some (.int res))) kX1_isYear 0 [(0, .int a0), (1, .int a1)] [] S
  unfold fX1_isYear at hf
  refine jr_iload_n dX1_isYear_0 rfl rfl ?_
  refine jr_iconst dX1_isYear_1 ic_1 ?_
  refine jr_bipush dX1_isYear_2 bp_96 ?_
  refine jr_call (st := []) lk_X1_246 (wX1_isIn a0 (1 : Int32) (96 : Int32) S rfl) jk_r0 rfl rfl (so_le rfl) (so_le rfl) dX1_isYear_4 ?_
  refine jr_if_eq (tgt := 24) dX1_isYear_7 rfl (fun c1 => ?_) (fun c1 => ?_)
  · have hf := so_t c1 hf
    refine jr_iconst dX1_isYear_24 ic_0 ?_
    obtain rfl := hf
    exact jr_iret rfl rfl dX1_isYear_25
  · have hf := so_f c1 hf
    refine jr_iload_n dX1_isYear_10 rfl rfl ?_
    refine jr_iconst dX1_isYear_11 ic_0 ?_
    refine jr_bipush dX1_isYear_12 bp_16 ?_
    refine jr_call (st := []) lk_X1_246 (wX1_isIn a1 (0 : Int32) (16 : Int32) S rfl) jk_r0 rfl rfl (so_le rfl) (so_le rfl) dX1_isYear_14 ?_
    refine jr_if_eq (tgt := 24) dX1_isYear_17 rfl (fun c2 => ?_) (fun c2 => ?_)
    · have hf := so_t c2 hf
      refine jr_iconst dX1_isYear_24 ic_0 ?_
      obtain rfl := hf
      exact jr_iret rfl rfl dX1_isYear_25
    · have hf := so_f c2 hf
      refine jr_iconst dX1_isYear_20 ic_1 ?_
      refine jr_goto (tgt := 25) dX1_isYear_21 rfl ?_
      obtain rfl := hf
      exact jr_iret rfl rfl dX1_isYear_25

/- X1_draw -/
abbrev kX1_draw : jx_K := (cX1_draw, 2, RX1, 0, (Option.some Jvm.ClassFile.FieldType.int), "draw", [])
def fX1_draw (a0 : Nat) (a1 : Int32) (S : so_St) : Option (Int32 × so_St) :=
  so_let (so_sI S a0 14 (((so_I S a0 14) * (1103515245 : Int32)) + (12345 : Int32))) fun S1 =>
  so_gd (so_ne0 a1) fun _ =>
  some (((((so_I S1 a0 14) >>> ((16 : Int32) &&& 31)) &&& (32767 : Int32)) - (((so_I S1 a0 14) >>> ((16 : Int32) &&& 31)) &&& (32767 : Int32)) / a1 * a1), S1)
set_option maxHeartbeats 4000000 in
set_option maxRecDepth 100000 in
theorem wX1_draw {res : Int32} {S' : so_St}  (a0 : Nat) (a1 : Int32)  (S : so_St) (k_a0 : a0 % 64 ∈ [0]) (hf : fX1_draw a0 a1 S = some (res, S')) : jx_Sp 0 yX1_draw (ws_ yX1_draw cX1_draw 2 (Option.some Jvm.ClassFile.FieldType.int)) [.ref a0, .int a1] S (.inl (some (.int res))) S' := by
  refine jx_of (plainFor_of_name (by decide)) (so_le rfl) ?_
  show jg_ (S, S', .inl (some (.int res))) kX1_draw 0 [(0, .ref a0), (1, .int a1)] [] S
  unfold fX1_draw at hf
  refine jr_aload_n dX1_draw_0 rfl rfl jv_rr ?_
  refine jr_aload_n dX1_draw_1 rfl rfl jv_rr ?_
  refine jr_getI fl_X1_399_0 k_a0 (so_n26 rfl) dX1_draw_2 ?_
  refine jr_ldcwI q1927 dX1_draw_5 ?_
  refine jr_imul dX1_draw_8 ?_
  refine jr_sipush dX1_draw_9 sp_12345 ?_
  refine jr_iadd dX1_draw_12 ?_
  refine jr_putI fp_X1_399_0 k_a0 (so_n26 rfl) (fun h => by cases h) rfl rfl dX1_draw_13 ?_
  refine so_let_e hf (fun S1 hf => ?_)
  refine jr_aload_n dX1_draw_16 rfl rfl jv_rr ?_
  refine jr_getI fl_X1_399_0 k_a0 (so_n26 rfl) dX1_draw_17 ?_
  refine jr_bipush dX1_draw_20 bp_16 ?_
  refine jr_ishr dX1_draw_22 ?_
  refine jr_sipush dX1_draw_23 sp_32767 ?_
  refine jr_iand dX1_draw_26 ?_
  refine jr_iload_n dX1_draw_27 rfl rfl ?_
  obtain ⟨g2, hf⟩ := so_gdE hf
  refine jr_irem dX1_draw_28 (so_ne0E g2) ?_
  obtain ⟨rfl, rfl⟩ := so_e2 hf
  exact jr_iret rfl rfl dX1_draw_29

/- X1_yearBy -/
abbrev kX1_yearBy : jx_K := (cX1_yearBy, 7, RX1, 1206, (Option.some (Jvm.ClassFile.FieldType.object "TunedHouses$Terrace")), "yearBy", [])
def LX1_yearBy_26 (f0 : Nat) (f2 : Int32) (f3 : Int32) (f4 : Nat) : Nat → Int32 → so_St → Option (Nat × so_St)
  | 0, _, _ => none
  | n + 1, v11, S12 =>
    if f2 ≤ v11 then
    (some (f4, S12))
    else
    (so_b2 (fX1_draw f0 (16 : Int32) S12) fun r15 S16 =>
    so_j (κ := so_St → Option (Nat × so_St)) (ρ := Option (Nat × so_St)) (fun (S17 : so_St) =>
    (fX7_passes f4 S17).bind fun S21 =>
    LX1_yearBy_26 f0 f2 f3 f4 n (v11 + (1 : Int32)) S21)
    (fun J18 =>
    if f3 ≤ r15 then
    (J18 S16)
    else
    ((fX1_pianos f0 S16).bind fun r24 =>
    if r24 ≤ (0 : Int32) then
    (J18 S16)
    else
    ((so_rk (so_R S16 f0 0) [1]).bind fun p26 =>
    if (so_I S16 p26 6) ≤ (0 : Int32) then
    (J18 S16)
    else
    ((fX1_pianos f0 S16).bind fun r30 =>
    so_b2 (fX1_draw f0 r30 S16) fun r32 S33 =>
    (so_rk (so_R S33 f0 0) [1]).bind fun p34 =>
    so_b2 (fX1_draw f0 (so_I S33 p34 6) S33) fun r37 S38 =>
    so_b2 (fX7_puts f4 r32 r37 S38) fun r40 S41 =>
    so_j (κ := Int32 → Option (Nat × so_St)) (ρ := Option (Nat × so_St)) (fun (v42 : Int32) =>
    so_let (so_sI S41 f0 25 ((so_I S33 f0 25) + v42)) fun S44 =>
    J18 S44)
    (fun J43 =>
    if r40 = (0 : Int32) then
    (J43 (0 : Int32))
    else
    (J43 (1 : Int32))))))))
set_option maxHeartbeats 4000000 in
set_option maxRecDepth 100000 in
theorem wX1_yearBy_26 {res : Nat} {S' : so_St} {S0 : so_St}   (f0 : Nat) (f2 : Int32) (f3 : Int32) (f4 : Nat)   (k_f0 : f0 % 64 ∈ [0]) (k_f4 : f4 % 64 ∈ [22]) : ∀ (n : Nat) (v11 : Int32) (S12 : so_St), LX1_yearBy_26 f0 f2 f3 f4 n v11 S12 = some (res, S') → jg_ (S0, S', .inl (some (.ref res))) kX1_yearBy 26 [(0, .ref f0), (2, .int f2), (3, .int f3), (4, .ref f4), (5, .int v11)] [] S12 := by
  intro n
  induction n with
  | zero =>
    intro v11 S12 hf
    exact so_no hf
  | succ n ih =>
    intro v11 S12 hf
    rw [LX1_yearBy_26] at hf
    refine jr_iload dX1_yearBy_26 rfl ?_
    refine jr_iload_n dX1_yearBy_28 rfl rfl ?_
    refine jr_icmp_ge (tgt := 115) dX1_yearBy_29 rfl (fun c13 => ?_) (fun c13 => ?_)
    · have hf := so_t c13 hf
      refine jr_aload dX1_yearBy_115 rfl jv_rr ?_
      obtain ⟨rfl, rfl⟩ := so_e2 hf
      exact jr_aret rfl (Or.inl ⟨_, rfl⟩) jv_rr dX1_yearBy_117
    · have hf := so_f c13 hf
      refine jr_aload_n dX1_yearBy_32 rfl rfl jv_rr ?_
      refine jr_bipush dX1_yearBy_33 bp_16 ?_
      obtain ⟨r15, S16, h14, hf⟩ := so_b2E hf
      refine jr_callM (st := []) lk_X1_406_0 (wX1_draw f0 (16 : Int32) S12 k_f0 h14) k_f0 rfl rfl rfl (so_le rfl) (so_le rfl) dX1_yearBy_35 ?_
      refine jr_iload_n dX1_yearBy_38 rfl rfl ?_
      refine so_jE hf (fun J => ∀ (S17 : so_St), J S17 = some (res, S') → jg_ (S0, S', .inl (some (.ref res))) kX1_yearBy 104 [(0, .ref f0), (2, .int f2), (3, .int f3), (4, .ref f4), (5, .int v11)] [] S17) (fun S17 hf => ?_) (fun J18 hJ18 hf => ?_)
      · refine jr_aload dX1_yearBy_104 rfl jv_rr ?_
        obtain ⟨S21, h19, hf⟩ := so_b hf
        refine jr_callM (st := []) lk_X1_333_22 (wX7_passes f4 S17 k_f4 h19) k_f4 rfl rfl rfl (so_le rfl) (so_le rfl) dX1_yearBy_106 ?_
        refine jr_iinc (v := v11 + (1 : Int32)) (lv' := [(0, .ref f0), (2, .int f2), (3, .int f3), (4, .ref f4), (5, .int (v11 + (1 : Int32)))]) dX1_yearBy_109 rfl rfl (so_le rfl) rfl ?_
        refine jr_goto (tgt := 26) dX1_yearBy_112 rfl ?_
        exact ih (v11 + (1 : Int32)) S21 hf
      · refine jr_icmp_ge (tgt := 104) dX1_yearBy_39 rfl (fun c22 => ?_) (fun c22 => ?_)
        · have hf := so_t c22 hf
          exact hJ18 S16 hf
        · have hf := so_f c22 hf
          refine jr_aload_n dX1_yearBy_42 rfl rfl jv_rr ?_
          obtain ⟨r24, h23, hf⟩ := so_b hf
          refine jr_callM (st := []) lk_X1_156_0 (wX1_pianos f0 S16 k_f0 h23) k_f0 rfl rfl rfl (so_le rfl) (so_le rfl) dX1_yearBy_43 ?_
          refine jr_if_le (tgt := 104) dX1_yearBy_46 rfl (fun c25 => ?_) (fun c25 => ?_)
          · have hf := so_t c25 hf
            exact hJ18 S16 hf
          · have hf := so_f c25 hf
            refine jr_aload_n dX1_yearBy_49 rfl rfl jv_rr ?_
            refine jr_getR fl_X1_22_0 k_f0 (so_n26 rfl) dX1_yearBy_50 ?_
            obtain ⟨p26, h27, hf⟩ := so_b hf
            obtain ⟨h27, k_p26⟩ := so_rk_s h27
            refine jr_rf h27 ?_
            refine jr_getI fl_X1_149_1 k_p26 (so_n26 rfl) dX1_yearBy_53 ?_
            refine jr_if_le (tgt := 104) dX1_yearBy_56 rfl (fun c28 => ?_) (fun c28 => ?_)
            · have hf := so_t c28 hf
              exact hJ18 S16 hf
            · have hf := so_f c28 hf
              refine jr_aload_n dX1_yearBy_59 rfl rfl jv_rr ?_
              refine jr_aload_n dX1_yearBy_60 rfl rfl jv_rr ?_
              obtain ⟨r30, h29, hf⟩ := so_b hf
              refine jr_callM (st := [.ref f0]) lk_X1_156_0 (wX1_pianos f0 S16 k_f0 h29) k_f0 rfl rfl rfl (so_le rfl) (so_le rfl) dX1_yearBy_61 ?_
              obtain ⟨r32, S33, h31, hf⟩ := so_b2E hf
              refine jr_callM (st := []) lk_X1_406_0 (wX1_draw f0 r30 S16 k_f0 h31) k_f0 rfl rfl rfl (so_le rfl) (so_le rfl) dX1_yearBy_64 ?_
              refine jr_istore (lv' := [(0, .ref f0), (2, .int f2), (3, .int f3), (4, .ref f4), (5, .int v11), (6, .int r32)]) dX1_yearBy_67 (so_le rfl) rfl ?_
              refine jr_aload_n dX1_yearBy_69 rfl rfl jv_rr ?_
              refine jr_dup dX1_yearBy_70 rfl ?_
              refine jr_getI fl_X1_403_0 k_f0 (so_n26 rfl) dX1_yearBy_71 ?_
              refine jr_aload dX1_yearBy_74 rfl jv_rr ?_
              refine jr_iload dX1_yearBy_76 rfl ?_
              refine jr_aload_n dX1_yearBy_78 rfl rfl jv_rr ?_
              refine jr_aload_n dX1_yearBy_79 rfl rfl jv_rr ?_
              refine jr_getR fl_X1_22_0 k_f0 (so_n26 rfl) dX1_yearBy_80 ?_
              obtain ⟨p34, h35, hf⟩ := so_b hf
              obtain ⟨h35, k_p34⟩ := so_rk_s h35
              refine jr_rf h35 ?_
              refine jr_getI fl_X1_149_1 k_p34 (so_n26 rfl) dX1_yearBy_83 ?_
              obtain ⟨r37, S38, h36, hf⟩ := so_b2E hf
              refine jr_callM (st := [.int r32, .ref f4, .int (so_I S33 f0 25), .ref f0]) lk_X1_406_0 (wX1_draw f0 (so_I S33 p34 6) S33 k_f0 h36) k_f0 rfl rfl rfl (so_le rfl) (so_le rfl) dX1_yearBy_86 ?_
              obtain ⟨r40, S41, h39, hf⟩ := so_b2E hf
              refine jr_callM (st := [.int (so_I S33 f0 25), .ref f0]) lk_X1_345_22 (wX7_puts f4 r32 r37 S38 k_f4 h39) k_f4 rfl rfl rfl (so_le rfl) (so_le rfl) dX1_yearBy_89 ?_
              refine so_jE hf (fun J => ∀ (v42 : Int32), J v42 = some (res, S') → jg_ (S0, S', .inl (some (.ref res))) kX1_yearBy 100 [(0, .ref f0), (2, .int f2), (3, .int f3), (4, .ref f4), (5, .int v11)] [.int v42, .int (so_I S33 f0 25), .ref f0] S41) (fun v42 hf => ?_) (fun J43 hJ43 hf => ?_)
              · refine jr_iadd dX1_yearBy_100 ?_
                refine jr_putI fp_X1_403_0 k_f0 (so_n26 rfl) (fun h => by cases h) rfl rfl dX1_yearBy_101 ?_
                refine so_let_e hf (fun S44 hf => ?_)
                exact hJ18 S44 hf
              · refine jr_if_eq (tgt := 99) dX1_yearBy_92 rfl (fun c45 => ?_) (fun c45 => ?_)
                · have hf := so_t c45 hf
                  refine jr_iconst dX1_yearBy_99 ic_0 ?_
                  refine jr_sub [0, 1, 2, 3, 4] rfl ?_
                  exact hJ43 (0 : Int32) hf
                · have hf := so_f c45 hf
                  refine jr_iconst dX1_yearBy_95 ic_1 ?_
                  refine jr_goto (tgt := 100) dX1_yearBy_96 rfl ?_
                  refine jr_sub [0, 1, 2, 3, 4] rfl ?_
                  exact hJ43 (1 : Int32) hf
def fX1_yearBy (a0 : Nat) (a1 : Int32) (a2 : Int32) (a3 : Int32) (S : so_St) : Option (Nat × so_St) :=
  (so_rk (so_R S a0 6) [22]).bind fun p1 =>
  (so_rk (so_R S a0 5) [22]).bind fun p3 =>
  so_b2 (fX7_becomes p1 p3 S) fun r6 S7 =>
  so_gd (decide (r6 % 64 ∈ [22])) fun _ =>
  so_let (so_sI S7 a0 14 a1) fun S9 =>
  so_let (so_sI S9 a0 25 (0 : Int32)) fun S10 =>
  LX1_yearBy_26 a0 a2 a3 r6 so_N (0 : Int32) S10
set_option maxHeartbeats 4000000 in
set_option maxRecDepth 100000 in
theorem wX1_yearBy {res : Nat} {S' : so_St}  (a0 : Nat) (a1 : Int32) (a2 : Int32) (a3 : Int32)  (S : so_St) (k_a0 : a0 % 64 ∈ [0]) (hf : fX1_yearBy a0 a1 a2 a3 S = some (res, S')) : jx_Sp 1206 yX1_yearBy (ws_ yX1_yearBy cX1_yearBy 7 (Option.some (Jvm.ClassFile.FieldType.object "TunedHouses$Terrace"))) [.ref a0, .int a1, .int a2, .int a3] S (.inl (some (.ref res))) S' := by
  refine jx_of (plainFor_of_name (by decide)) (so_le rfl) ?_
  show jg_ (S, S', .inl (some (.ref res))) kX1_yearBy 0 [(0, .ref a0), (1, .int a1), (2, .int a2), (3, .int a3)] [] S
  unfold fX1_yearBy at hf
  refine jr_aload_n dX1_yearBy_0 rfl rfl jv_rr ?_
  refine jr_getR fl_X1_53_0 k_a0 (so_n26 rfl) dX1_yearBy_1 ?_
  obtain ⟨p1, h2, hf⟩ := so_b hf
  obtain ⟨h2, k_p1⟩ := so_rk_s h2
  refine jr_rf h2 ?_
  refine jr_aload_n dX1_yearBy_4 rfl rfl jv_rr ?_
  refine jr_getR fl_X1_49_0 k_a0 (so_n26 rfl) dX1_yearBy_5 ?_
  obtain ⟨p3, h4, hf⟩ := so_b hf
  obtain ⟨h4, k_p3⟩ := so_rk_s h4
  refine jr_rf h4 ?_
  obtain ⟨r6, S7, h5, hf⟩ := so_b2E hf
  obtain ⟨g8, hf⟩ := so_gdE hf
  refine jr_callM (st := []) lk_X1_235_22 (wX7_becomes p1 p3 S k_p1 k_p3 h5) k_p1 rfl rfl rfl (so_le rfl) (so_le rfl) dX1_yearBy_8 ?_
  refine jr_astore (lv' := [(0, .ref a0), (1, .int a1), (2, .int a2), (3, .int a3), (4, .ref r6)]) dX1_yearBy_11 (so_le rfl) jv_rr rfl ?_
  refine jr_aload_n dX1_yearBy_13 rfl rfl jv_rr ?_
  refine jr_iload_n dX1_yearBy_14 rfl rfl ?_
  refine jr_putI fp_X1_399_0 k_a0 (so_n26 rfl) (fun h => by cases h) rfl rfl dX1_yearBy_15 ?_
  refine so_let_e hf (fun S9 hf => ?_)
  refine jr_aload_n dX1_yearBy_18 rfl rfl jv_rr ?_
  refine jr_iconst dX1_yearBy_19 ic_0 ?_
  refine jr_putI fp_X1_403_0 k_a0 (so_n26 rfl) (fun h => by cases h) rfl rfl dX1_yearBy_20 ?_
  refine so_let_e hf (fun S10 hf => ?_)
  refine jr_iconst dX1_yearBy_23 ic_0 ?_
  refine jr_istore (lv' := [(0, .ref a0), (1, .int a1), (2, .int a2), (3, .int a3), (4, .ref r6), (5, .int (0 : Int32))]) dX1_yearBy_24 (so_le rfl) rfl ?_
  refine jr_sub [0, 2, 3, 4, 5] rfl ?_
  refine wX1_yearBy_26 a0 a2 a3 r6 k_a0 (of_decide_eq_true g8) so_N (0 : Int32) S10 hf

/- X7_changed -/
abbrev kX7_changed : jx_K := (cX7_changed, 1, RX7, 2, (Option.some Jvm.ClassFile.FieldType.int), "changed", [])
def fX7_changed (a0 : Nat) (S : so_St) : Option Int32 :=
  (so_rk (so_R S a0 10) [0]).bind fun p1 =>
  (so_rk (so_R S p1 0) [1]).bind fun p3 =>
  (so_rk (so_R S a0 10) [0]).bind fun p5 =>
  (so_rk (so_R S p5 0) [1]).bind fun p7 =>
  (so_rk (so_R S p7 0) [50]).bind fun p9 =>
  (fX7_thoseThatAre a0 p9 S).bind fun r12 =>
  some ((((1 : Int32) <<< ((so_I S p3 6) &&& 31)) - (1 : Int32)) &&& (r12 ^^^ (-1 : Int32)))
set_option maxHeartbeats 4000000 in
set_option maxRecDepth 100000 in
theorem wX7_changed {res : Int32}  (a0 : Nat)  (S : so_St) (k_a0 : a0 % 64 ∈ [22]) (hf : fX7_changed a0 S = some res) : jx_Sp 2 yX7_changed (ws_ yX7_changed cX7_changed 1 (Option.some Jvm.ClassFile.FieldType.int)) [.ref a0] S (.inl (some (.int res))) S := by
  refine jx_of (plainFor_of_name (by decide)) (so_le rfl) ?_
  show jg_ (S, S, .inl (some (.int res))) kX7_changed 0 [(0, .ref a0)] [] S
  unfold fX7_changed at hf
  refine jr_iconst dX7_changed_0 ic_1 ?_
  refine jr_aload_n dX7_changed_1 rfl rfl jv_rr ?_
  refine jr_getR fl_X7_3_22 k_a0 (so_n26 rfl) dX7_changed_2 ?_
  obtain ⟨p1, h2, hf⟩ := so_b hf
  obtain ⟨h2, k_p1⟩ := so_rk_s h2
  refine jr_rf h2 ?_
  refine jr_getR fl_X7_31_0 k_p1 (so_n26 rfl) dX7_changed_5 ?_
  obtain ⟨p3, h4, hf⟩ := so_b hf
  obtain ⟨h4, k_p3⟩ := so_rk_s h4
  refine jr_rf h4 ?_
  refine jr_getI fl_X7_35_1 k_p3 (so_n26 rfl) dX7_changed_8 ?_
  refine jr_ishl dX7_changed_11 ?_
  refine jr_iconst dX7_changed_12 ic_1 ?_
  refine jr_isub dX7_changed_13 ?_
  refine jr_aload_n dX7_changed_14 rfl rfl jv_rr ?_
  refine jr_aload_n dX7_changed_15 rfl rfl jv_rr ?_
  refine jr_getR fl_X7_3_22 k_a0 (so_n26 rfl) dX7_changed_16 ?_
  obtain ⟨p5, h6, hf⟩ := so_b hf
  obtain ⟨h6, k_p5⟩ := so_rk_s h6
  refine jr_rf h6 ?_
  refine jr_getR fl_X7_31_0 k_p5 (so_n26 rfl) dX7_changed_19 ?_
  obtain ⟨p7, h8, hf⟩ := so_b hf
  obtain ⟨h8, k_p7⟩ := so_rk_s h8
  refine jr_rf h8 ?_
  refine jr_getR fl_X7_41_1 k_p7 (so_n26 rfl) dX7_changed_22 ?_
  obtain ⟨p9, h10, hf⟩ := so_b hf
  obtain ⟨h10, k_p9⟩ := so_rk_s h10
  refine jr_rf h10 ?_
  obtain ⟨r12, h11, hf⟩ := so_b hf
  refine jr_callM (st := [.int (((1 : Int32) <<< ((so_I S p3 6) &&& 31)) - (1 : Int32))]) lk_X7_114_22 (wX7_thoseThatAre a0 p9 S k_a0 k_p9 h11) k_a0 rfl rfl rfl (so_le rfl) (so_le rfl) dX7_changed_25 ?_
  refine jr_iconst dX7_changed_28 ic_m1 ?_
  refine jr_ixor dX7_changed_29 ?_
  refine jr_iand dX7_changed_30 ?_
  obtain rfl := so_e1 hf
  exact jr_iret rfl rfl dX7_changed_31

/- X1_year -/
abbrev kX1_year : jx_K := (cX1_year, 6, RX1, 1207, (Option.some Jvm.ClassFile.FieldType.int), "year", [])
def fX1_year (a0 : Nat) (a1 : Int32) (a2 : Int32) (a3 : Int32) (a4 : Int32) (S : so_St) : Option ((Int32 ⊕ Nat) × so_St) :=
  so_j (κ := Int32 → Option ((Int32 ⊕ Nat) × so_St)) (ρ := Option ((Int32 ⊕ Nat) × so_St)) (fun (v1 : Int32) =>
  so_b3 (fX1_need a0 v1 S) (fun r3 S4 =>
  so_b2 (fX1_yearBy a0 a1 a2 a3 S4) fun r10 S11 =>
  so_gd (decide (r10 % 64 ∈ [22])) fun _ =>
  if a4 = (0 : Int32) then
  ((fX7_changed r10 S11).bind fun r25 =>
  some (.inl r25, S11))
  else
  (if a4 = (1 : Int32) then
  (some (.inl (so_I S11 a0 25), S11))
  else
  (if a4 = (2 : Int32) then
  ((fX7_all r10 S11).bind fun r23 =>
  some (.inl r23, S11))
  else
  ((so_rk (so_R S11 a0 0) [1]).bind fun p16 =>
  (so_rk (so_R S11 p16 1) [50]).bind fun p18 =>
  (fX7_thoseThatAre r10 p18 S11).bind fun r21 =>
  some (.inl r21, S11)))))
  (fun x5 S6 =>
  so_gd (decide (x5 % 64 ∈ [27])) fun _ =>
  some (.inr x5, S6)))
  (fun J2 =>
  so_j (κ := Unit → Option ((Int32 ⊕ Nat) × so_St)) (ρ := Option ((Int32 ⊕ Nat) × so_St)) (fun (_u : Unit) =>
  J2 (0 : Int32))
  (fun J26 =>
  if (fX1_isYear a2 a3) = (0 : Int32) then
  (J26 ())
  else
  (if (fX1_isIn a4 (0 : Int32) (3 : Int32)) = (0 : Int32) then
  (J26 ())
  else
  (J2 (1 : Int32)))))
set_option maxHeartbeats 4000000 in
set_option maxRecDepth 100000 in
theorem wX1_year {res : Int32 ⊕ Nat} {S' : so_St}  (a0 : Nat) (a1 : Int32) (a2 : Int32) (a3 : Int32) (a4 : Int32)  (S : so_St) (k_a0 : a0 % 64 ∈ [0]) (hf : fX1_year a0 a1 a2 a3 a4 S = some (res, S')) : jx_Sp 1207 yX1_year (ws_ yX1_year cX1_year 6 (Option.some Jvm.ClassFile.FieldType.int)) [.ref a0, .int a1, .int a2, .int a3, .int a4] S (so_oi res) S' := by
  refine jx_of (plainFor_of_name (by decide)) (so_le rfl) ?_
  show jg_ (S, S', so_oi res) kX1_year 0 [(0, .ref a0), (1, .int a1), (2, .int a2), (3, .int a3), (4, .int a4)] [] S
  unfold fX1_year at hf
  refine jr_aload_n dX1_year_0 rfl rfl jv_rr ?_
  refine jr_iload_n dX1_year_1 rfl rfl ?_
  refine jr_iload_n dX1_year_2 rfl rfl ?_
  refine jr_call (st := [.ref a0]) lk_X1_409 (wX1_isYear a2 a3 S rfl) jk_r0 rfl rfl (so_le rfl) (so_le rfl) dX1_year_3 ?_
  refine so_jE hf (fun J => ∀ (v1 : Int32), J v1 = some (res, S') → jg_ (S, S', so_oi res) kX1_year 24 [(0, .ref a0), (1, .int a1), (2, .int a2), (3, .int a3), (4, .int a4)] [.int v1, .ref a0] S) (fun v1 hf => ?_) (fun J2 hJ2 hf => ?_)
  · rcases so_b3E hf with ⟨r3, S4, h7, hf⟩ | ⟨x5, S6, h7, hf⟩
    · refine jr_callM (st := []) lk_X1_172_0 (wX1_need a0 v1 S k_a0 h7) k_a0 rfl rfl rfl (so_le rfl) (so_le rfl) dX1_year_24 ?_
      refine jr_aload_n dX1_year_27 rfl rfl jv_rr ?_
      refine jr_iload_n dX1_year_28 rfl rfl ?_
      refine jr_iload_n dX1_year_29 rfl rfl ?_
      refine jr_iload_n dX1_year_30 rfl rfl ?_
      obtain ⟨r10, S11, h9, hf⟩ := so_b2E hf
      obtain ⟨g12, hf⟩ := so_gdE hf
      refine jr_callM (st := []) lk_X1_412_0 (wX1_yearBy a0 a1 a2 a3 S4 k_a0 h9) k_a0 rfl rfl rfl (so_le rfl) (so_le rfl) dX1_year_31 ?_
      refine jr_astore (lv' := [(0, .ref a0), (1, .int a1), (2, .int a2), (3, .int a3), (4, .int a4), (5, .ref r10)]) dX1_year_34 (so_le rfl) jv_rr rfl ?_
      refine jr_iload dX1_year_36 rfl ?_
      refine jr_if_ne (tgt := 49) dX1_year_38 rfl (fun c13 => ?_) (fun c13 => ?_)
      · have hf := so_f c13 hf
        refine jr_iload dX1_year_49 rfl ?_
        refine jr_iconst dX1_year_51 ic_1 ?_
        refine jr_icmp_ne (tgt := 62) dX1_year_52 rfl (fun c14 => ?_) (fun c14 => ?_)
        · have hf := so_f c14 hf
          refine jr_iload dX1_year_62 rfl ?_
          refine jr_iconst dX1_year_64 ic_2 ?_
          refine jr_icmp_ne (tgt := 76) dX1_year_65 rfl (fun c15 => ?_) (fun c15 => ?_)
          · have hf := so_f c15 hf
            refine jr_aload dX1_year_76 rfl jv_rr ?_
            refine jr_aload_n dX1_year_78 rfl rfl jv_rr ?_
            refine jr_getR fl_X1_22_0 k_a0 (so_n26 rfl) dX1_year_79 ?_
            obtain ⟨p16, h17, hf⟩ := so_b hf
            obtain ⟨h17, k_p16⟩ := so_rk_s h17
            refine jr_rf h17 ?_
            refine jr_getR fl_X1_262_1 k_p16 (so_n26 rfl) dX1_year_82 ?_
            obtain ⟨p18, h19, hf⟩ := so_b hf
            obtain ⟨h19, k_p18⟩ := so_rk_s h19
            refine jr_rf h19 ?_
            obtain ⟨r21, h20, hf⟩ := so_b hf
            refine jr_callM (st := []) lk_X1_265_22 (wX7_thoseThatAre r10 p18 S11 (of_decide_eq_true g12) k_p18 h20) (of_decide_eq_true g12) rfl rfl rfl (so_le rfl) (so_le rfl) dX1_year_85 ?_
            obtain ⟨rfl, rfl⟩ := so_e2 hf
            exact jr_iret rfl rfl dX1_year_88
          · have hf := so_t c15 hf
            refine jr_aload dX1_year_68 rfl jv_rr ?_
            obtain ⟨r23, h22, hf⟩ := so_b hf
            refine jr_callM (st := []) lk_X1_271_22 (wX7_all r10 S11 (of_decide_eq_true g12) h22) (of_decide_eq_true g12) rfl rfl rfl (so_le rfl) (so_le rfl) dX1_year_70 ?_
            refine jr_goto (tgt := 88) dX1_year_73 rfl ?_
            obtain ⟨rfl, rfl⟩ := so_e2 hf
            exact jr_iret rfl rfl dX1_year_88
        · have hf := so_t c14 hf
          refine jr_aload_n dX1_year_55 rfl rfl jv_rr ?_
          refine jr_getI fl_X1_403_0 k_a0 (so_n26 rfl) dX1_year_56 ?_
          refine jr_goto (tgt := 88) dX1_year_59 rfl ?_
          obtain ⟨rfl, rfl⟩ := so_e2 hf
          exact jr_iret rfl rfl dX1_year_88
      · have hf := so_t c13 hf
        refine jr_aload dX1_year_41 rfl jv_rr ?_
        obtain ⟨r25, h24, hf⟩ := so_b hf
        refine jr_callM (st := []) lk_X1_342_22 (wX7_changed r10 S11 (of_decide_eq_true g12) h24) (of_decide_eq_true g12) rfl rfl rfl (so_le rfl) (so_le rfl) dX1_year_43 ?_
        refine jr_goto (tgt := 88) dX1_year_46 rfl ?_
        obtain ⟨rfl, rfl⟩ := so_e2 hf
        exact jr_iret rfl rfl dX1_year_88
    · refine jr_callMX (st := []) lk_X1_172_0 (wX1_need a0 v1 S k_a0 h7) k_a0 rfl rfl rfl (so_le rfl) (so_le rfl) dX1_year_24 ?_
      obtain ⟨g8, hf⟩ := so_gdE hf
      obtain ⟨rfl, rfl⟩ := so_e2 hf
      exact jr_out (so_l29 (of_decide_eq_true g8) rfl).1 (so_l29 (of_decide_eq_true g8) rfl).2 rfl
  · refine so_jE hf (fun J => ∀ (u0 : Unit), J u0 = some (res, S') → jg_ (S, S', so_oi res) kX1_year 23 [(0, .ref a0), (1, .int a1), (2, .int a2), (3, .int a3), (4, .int a4)] [.ref a0] S) (fun _u hf => ?_) (fun J26 hJ26 hf => ?_)
    · refine jr_iconst dX1_year_23 ic_0 ?_
      exact hJ2 (0 : Int32) hf
    · refine jr_if_eq (tgt := 23) dX1_year_6 rfl (fun c27 => ?_) (fun c27 => ?_)
      · have hf := so_t c27 hf
        exact hJ26 () hf
      · have hf := so_f c27 hf
        refine jr_iload dX1_year_9 rfl ?_
        refine jr_iconst dX1_year_11 ic_0 ?_
        refine jr_iconst dX1_year_12 ic_3 ?_
        refine jr_call (st := [.ref a0]) lk_X1_246 (wX1_isIn a4 (0 : Int32) (3 : Int32) S rfl) jk_r0 rfl rfl (so_le rfl) (so_le rfl) dX1_year_13 ?_
        refine jr_if_eq (tgt := 23) dX1_year_16 rfl (fun c28 => ?_) (fun c28 => ?_)
        · have hf := so_t c28 hf
          exact hJ26 () hf
        · have hf := so_f c28 hf
          refine jr_iconst dX1_year_19 ic_1 ?_
          refine jr_goto (tgt := 24) dX1_year_20 rfl ?_
          exact hJ2 (1 : Int32) hf

/- X0_year -/
abbrev kX0_year : jx_K := (cX0_year, 7, RX0, 1208, (Option.some Jvm.ClassFile.FieldType.int), "year", tableOf [(0, 14, 17, 13)])
def fX0_year (a0 : Nat) (a1 : Int32) (a2 : Int32) (a3 : Int32) (a4 : Int32) (a5 : Nat) (S : so_St) : Option (Int32 × so_St) :=
  so_b3 (fX1_year a0 a1 a2 a3 a4 S) (fun r1 S2 =>
  so_gd (so_in (0 : Int32) (so_l S2 a5)) fun _ =>
  so_let (so_sL S2 a5 (0 : Int32).toNatClampNeg r1.toInt64) fun S8 =>
  some ((0 : Int32), S8))
  (fun x3 S4 =>
  if x3 % 64 = 27 then
  (some ((1 : Int32), S4))
  else
  none)
set_option maxHeartbeats 4000000 in
set_option maxRecDepth 100000 in
theorem wX0_year {res : Int32} {S' : so_St}  (a0 : Nat) (a1 : Int32) (a2 : Int32) (a3 : Int32) (a4 : Int32) (a5 : Nat)  (S : so_St) (k_a0 : a0 % 64 ∈ [0]) (k_a5 : a5 % 64 ∈ [53]) (hf : fX0_year a0 a1 a2 a3 a4 a5 S = some (res, S')) : jx_Sp 1208 yX0_year (wsW_ yX0_year cX0_year 7 (Option.some Jvm.ClassFile.FieldType.int) [(0, 14, 17, 13)]) [.ref a0, .int a1, .int a2, .int a3, .int a4, .ref a5] S (.inl (some (.int res))) S' := by
  refine jx_ofW (by decide) (so_le rfl) ?_
  show jg_ (S, S', .inl (some (.int res))) kX0_year 0 [(0, .ref a0), (1, .int a1), (2, .int a2), (3, .int a3), (4, .int a4), (5, .ref a5)] [] S
  unfold fX0_year at hf
  refine jr_aload dX0_year_0 rfl jv_rr ?_
  refine jr_iconst dX0_year_2 ic_0 ?_
  refine jr_aload_n dX0_year_3 rfl rfl jv_rr ?_
  refine jr_iload_n dX0_year_4 rfl rfl ?_
  refine jr_iload_n dX0_year_5 rfl rfl ?_
  refine jr_iload_n dX0_year_6 rfl rfl ?_
  refine jr_iload dX0_year_7 rfl ?_
  rcases so_b3E hf with ⟨r1, S2, h5, hf⟩ | ⟨x3, S4, h5, hf⟩
  · refine jr_callM (st := [.int (0 : Int32), .ref a5]) lk_X0_96_0 (wX1_year a0 a1 a2 a3 a4 S k_a0 h5) k_a0 rfl rfl rfl (so_le rfl) (so_le rfl) dX0_year_9 ?_
    refine jr_i2l dX0_year_12 ?_
    obtain ⟨g7, hf⟩ := so_gdE hf
    refine jr_lastore (so_m1 k_a5) (so_inE g7) dX0_year_13 ?_
    refine so_let_e hf (fun S8 hf => ?_)
    refine jr_goto (tgt := 21) dX0_year_14 rfl ?_
    refine jr_iconst dX0_year_21 ic_0 ?_
    obtain ⟨rfl, rfl⟩ := so_e2 hf
    exact jr_iret rfl rfl dX0_year_22
  · refine jr_callMX (st := [.int (0 : Int32), .ref a5]) lk_X0_96_0 (wX1_year a0 a1 a2 a3 a4 S k_a0 h5) k_a0 rfl rfl rfl (so_le rfl) (so_le rfl) dX0_year_9 ?_
    by_cases c6 : x3 % 64 = 27
    · have hf := so_t c6 hf
      refine jr_catch (by rw [c6]; decide) (by rw [c6]; decide) [] ⟨0, 14, 17, 13⟩ [] rfl (fun _ h => by cases h) rfl (by decide) q863 (by rw [c6]; exact q181) ?_
      refine jr_astore (lv' := [(0, .ref a0), (1, .int a1), (2, .int a2), (3, .int a3), (4, .int a4), (5, .ref a5), (6, .ref x3)]) dX0_year_17 (so_le rfl) jv_rr rfl ?_
      refine jr_iconst dX0_year_19 ic_1 ?_
      obtain ⟨rfl, rfl⟩ := so_e2 hf
      exact jr_iret rfl rfl dX0_year_20
    · have hf := so_f c6 hf
      exact so_no hf
