/-! printed: functions and walks -/
set_option maxRecDepth 100000
set_option linter.unusedVariables false
/- X1_isThing -/
abbrev kX1_isThing : jx_K := (cX1_isThing, 1, RX1, 0, (Option.some Jvm.ClassFile.FieldType.boolean), "isThing", [])
def fX1_isThing (a0 : Int32) : Int32 :=
  if a0 < (0 : Int32) then
  ((0 : Int32))
  else
  (if (10 : Int32) ≤ a0 then
  ((0 : Int32))
  else
  ((1 : Int32)))
set_option maxHeartbeats 4000000 in
set_option maxRecDepth 100000 in
theorem wX1_isThing {res : Int32}  (a0 : Int32)  (S : so_St)  (hf : fX1_isThing a0 = res) : jx_Sp 0 yX1_isThing (ws_ yX1_isThing cX1_isThing 1 (Option.some Jvm.ClassFile.FieldType.boolean)) [.int a0] S (.inl (some (.int res))) S := by
  refine jx_of (plainFor_of_name (by decide)) (so_le rfl) ?_
  show jg_ (S, S, .inl (some (.int res))) kX1_isThing 0 [(0, .int a0)] [] S
  unfold fX1_isThing at hf
  refine jr_iload_n dX1_isThing_0 rfl rfl ?_
  refine jr_if_lt (tgt := 14) dX1_isThing_1 rfl (fun c1 => ?_) (fun c1 => ?_)
  · have hf := so_t c1 hf
    refine jr_iconst dX1_isThing_14 ic_0 ?_
    obtain rfl := hf
    exact jr_iret rfl rfl dX1_isThing_15
  · have hf := so_f c1 hf
    refine jr_iload_n dX1_isThing_4 rfl rfl ?_
    refine jr_bipush dX1_isThing_5 bp_10 ?_
    refine jr_icmp_ge (tgt := 14) dX1_isThing_7 rfl (fun c2 => ?_) (fun c2 => ?_)
    · have hf := so_t c2 hf
      refine jr_iconst dX1_isThing_14 ic_0 ?_
      obtain rfl := hf
      exact jr_iret rfl rfl dX1_isThing_15
    · have hf := so_f c2 hf
      refine jr_iconst dX1_isThing_10 ic_1 ?_
      refine jr_goto (tgt := 15) dX1_isThing_11 rfl ?_
      obtain rfl := hf
      exact jr_iret rfl rfl dX1_isThing_15

/- X1_there -/
abbrev kX1_there : jx_K := (cX1_there, 3, RX1, 8, (Option.some Jvm.ClassFile.FieldType.int), "there", [])
def fX1_there (a0 : Nat) (a1 : Int32) (a2 : Int32) (S : so_St) : Option ((Int32 ⊕ Nat) × so_St) :=
  so_b3 (fX1_needHouse a0 a1 S) (fun r1 S2 =>
  so_b3 (fX1_need a0 (fX1_isThing a2) S2) (fun r7 S8 =>
  (so_rk (so_R S8 a0 5) [22]).bind fun p13 =>
  (so_rk (so_R S8 p13 3) [50]).bind fun p15 =>
  so_gd (so_in (((10 : Int32) * a1) + a2) (so_l S8 p15)) fun _ =>
  some (.inl (so_I S8 p15 (((10 : Int32) * a1) + a2).toNatClampNeg), S8))
  (fun x9 S10 =>
  so_gd (decide (x9 % 64 ∈ [27])) fun _ =>
  some (.inr x9, S10)))
  (fun x3 S4 =>
  so_gd (decide (x3 % 64 ∈ [28])) fun _ =>
  some (.inr x3, S4))
set_option maxHeartbeats 4000000 in
set_option maxRecDepth 100000 in
theorem wX1_there {res : Int32 ⊕ Nat} {S' : so_St}  (a0 : Nat) (a1 : Int32) (a2 : Int32)  (S : so_St) (k_a0 : a0 % 64 ∈ [0]) (hf : fX1_there a0 a1 a2 S = some (res, S')) : jx_Sp 8 yX1_there (ws_ yX1_there cX1_there 3 (Option.some Jvm.ClassFile.FieldType.int)) [.ref a0, .int a1, .int a2] S (so_oi res) S' := by
  refine jx_of (plainFor_of_name (by decide)) (so_le rfl) ?_
  show jg_ (S, S', so_oi res) kX1_there 0 [(0, .ref a0), (1, .int a1), (2, .int a2)] [] S
  unfold fX1_there at hf
  refine jr_aload_n dX1_there_0 rfl rfl jv_rr ?_
  refine jr_iload_n dX1_there_1 rfl rfl ?_
  rcases so_b3E hf with ⟨r1, S2, h5, hf⟩ | ⟨x3, S4, h5, hf⟩
  · refine jr_callM (st := []) lk_X1_274_0 (wX1_needHouse a0 a1 S k_a0 h5) k_a0 rfl rfl rfl (so_le rfl) (so_le rfl) dX1_there_2 ?_
    refine jr_aload_n dX1_there_5 rfl rfl jv_rr ?_
    refine jr_iload_n dX1_there_6 rfl rfl ?_
    refine jr_call (st := [.ref a0]) lk_X1_292 (wX1_isThing a2 S2 rfl) jk_r0 rfl rfl (so_le rfl) (so_le rfl) dX1_there_7 ?_
    rcases so_b3E hf with ⟨r7, S8, h11, hf⟩ | ⟨x9, S10, h11, hf⟩
    · refine jr_callM (st := []) lk_X1_172_0 (wX1_need a0 (fX1_isThing a2) S2 k_a0 h11) k_a0 rfl rfl rfl (so_le rfl) (so_le rfl) dX1_there_10 ?_
      refine jr_aload_n dX1_there_13 rfl rfl jv_rr ?_
      refine jr_getR fl_X1_49_0 k_a0 (so_n26 rfl) dX1_there_14 ?_
      obtain ⟨p13, h14, hf⟩ := so_b hf
      obtain ⟨h14, k_p13⟩ := so_rk_s h14
      refine jr_rf h14 ?_
      refine jr_getR fl_X1_286_22 k_p13 (so_n26 rfl) dX1_there_17 ?_
      obtain ⟨p15, h16, hf⟩ := so_b hf
      obtain ⟨h16, k_p15⟩ := so_rk_s h16
      refine jr_rf h16 ?_
      refine jr_bipush dX1_there_20 bp_10 ?_
      refine jr_iload_n dX1_there_22 rfl rfl ?_
      refine jr_imul dX1_there_23 ?_
      refine jr_iload_n dX1_there_24 rfl rfl ?_
      refine jr_iadd dX1_there_25 ?_
      obtain ⟨g17, hf⟩ := so_gdE hf
      refine jr_iaload (so_m1 k_p15) (so_inE g17) dX1_there_26 ?_
      obtain ⟨rfl, rfl⟩ := so_e2 hf
      exact jr_iret rfl rfl dX1_there_27
    · refine jr_callMX (st := []) lk_X1_172_0 (wX1_need a0 (fX1_isThing a2) S2 k_a0 h11) k_a0 rfl rfl rfl (so_le rfl) (so_le rfl) dX1_there_10 ?_
      obtain ⟨g12, hf⟩ := so_gdE hf
      obtain ⟨rfl, rfl⟩ := so_e2 hf
      exact jr_out (so_l29 (of_decide_eq_true g12) rfl).1 (so_l29 (of_decide_eq_true g12) rfl).2 rfl
  · refine jr_callMX (st := []) lk_X1_274_0 (wX1_needHouse a0 a1 S k_a0 h5) k_a0 rfl rfl rfl (so_le rfl) (so_le rfl) dX1_there_2 ?_
    obtain ⟨g6, hf⟩ := so_gdE hf
    obtain ⟨rfl, rfl⟩ := so_e2 hf
    exact jr_out (so_l29 (of_decide_eq_true g6) rfl).1 (so_l29 (of_decide_eq_true g6) rfl).2 rfl

/- X0_there -/
abbrev kX0_there : jx_K := (cX0_there, 5, RX0, 9, (Option.some Jvm.ClassFile.FieldType.int), "there", tableOf [(0, 10, 13, 31), (0, 10, 17, 13)])
def fX0_there (a0 : Nat) (a1 : Int32) (a2 : Int32) (a3 : Nat) (S : so_St) : Option (Int32 × so_St) :=
  so_b3 (fX1_there a0 a1 a2 S) (fun r1 S2 =>
  so_gd (so_in (0 : Int32) (so_l S2 a3)) fun _ =>
  so_let (so_sL S2 a3 (0 : Int32).toNatClampNeg r1.toInt64) fun S9 =>
  some ((0 : Int32), S9))
  (fun x3 S4 =>
  if x3 % 64 = 27 then
  (some ((2 : Int32), S4))
  else
  if x3 % 64 = 28 then
  (some ((1 : Int32), S4))
  else
  none)
set_option maxHeartbeats 4000000 in
set_option maxRecDepth 100000 in
theorem wX0_there {res : Int32} {S' : so_St}  (a0 : Nat) (a1 : Int32) (a2 : Int32) (a3 : Nat)  (S : so_St) (k_a0 : a0 % 64 ∈ [0]) (k_a3 : a3 % 64 ∈ [53]) (hf : fX0_there a0 a1 a2 a3 S = some (res, S')) : jx_Sp 9 yX0_there (wsW_ yX0_there cX0_there 5 (Option.some Jvm.ClassFile.FieldType.int) [(0, 10, 13, 31), (0, 10, 17, 13)]) [.ref a0, .int a1, .int a2, .ref a3] S (.inl (some (.int res))) S' := by
  refine jx_ofW (by decide) (so_le rfl) ?_
  show jg_ (S, S', .inl (some (.int res))) kX0_there 0 [(0, .ref a0), (1, .int a1), (2, .int a2), (3, .ref a3)] [] S
  unfold fX0_there at hf
  refine jr_aload_n dX0_there_0 rfl rfl jv_rr ?_
  refine jr_iconst dX0_there_1 ic_0 ?_
  refine jr_aload_n dX0_there_2 rfl rfl jv_rr ?_
  refine jr_iload_n dX0_there_3 rfl rfl ?_
  refine jr_iload_n dX0_there_4 rfl rfl ?_
  rcases so_b3E hf with ⟨r1, S2, h5, hf⟩ | ⟨x3, S4, h5, hf⟩
  · refine jr_callM (st := [.int (0 : Int32), .ref a3]) lk_X0_33_0 (wX1_there a0 a1 a2 S k_a0 h5) k_a0 rfl rfl rfl (so_le rfl) (so_le rfl) dX0_there_5 ?_
    refine jr_i2l dX0_there_8 ?_
    obtain ⟨g8, hf⟩ := so_gdE hf
    refine jr_lastore (so_m1 k_a3) (so_inE g8) dX0_there_9 ?_
    refine so_let_e hf (fun S9 hf => ?_)
    refine jr_goto (tgt := 21) dX0_there_10 rfl ?_
    refine jr_iconst dX0_there_21 ic_0 ?_
    obtain ⟨rfl, rfl⟩ := so_e2 hf
    exact jr_iret rfl rfl dX0_there_22
  · refine jr_callMX (st := [.int (0 : Int32), .ref a3]) lk_X0_33_0 (wX1_there a0 a1 a2 S k_a0 h5) k_a0 rfl rfl rfl (so_le rfl) (so_le rfl) dX0_there_5 ?_
    by_cases c6 : x3 % 64 = 27
    · have hf := so_t c6 hf
      refine jr_catch (by rw [c6]; decide) (by rw [c6]; decide) [(⟨0, 10, 13, 31⟩ : ExceptionTableEntry)] ⟨0, 10, 17, 13⟩ [] rfl (List.forall_mem_cons.mpr ⟨Or.inr ⟨by decide, c6, q1698⟩, fun _ h => by cases h⟩) rfl (by decide) q863 (by rw [c6]; exact q181) ?_
      refine jr_astore (lv' := [(0, .ref a0), (1, .int a1), (2, .int a2), (3, .ref a3), (4, .ref x3)]) dX0_there_17 (so_le rfl) jv_rr rfl ?_
      refine jr_iconst dX0_there_19 ic_2 ?_
      obtain ⟨rfl, rfl⟩ := so_e2 hf
      exact jr_iret rfl rfl dX0_there_20
    · have hf := so_f c6 hf
      by_cases c7 : x3 % 64 = 28
      · have hf := so_t c7 hf
        refine jr_catch (by rw [c7]; decide) (by rw [c7]; decide) [] ⟨0, 10, 13, 31⟩ [(⟨0, 10, 17, 13⟩ : ExceptionTableEntry)] rfl (fun _ h => by cases h) rfl (by decide) q1698 (by rw [c7]; exact q1713) ?_
        refine jr_astore (lv' := [(0, .ref a0), (1, .int a1), (2, .int a2), (3, .ref a3), (4, .ref x3)]) dX0_there_13 (so_le rfl) jv_rr rfl ?_
        refine jr_iconst dX0_there_15 ic_1 ?_
        obtain ⟨rfl, rfl⟩ := so_e2 hf
        exact jr_iret rfl rfl dX0_there_16
      · have hf := so_f c7 hf
        exact so_no hf

/- X1_isPart -/
abbrev kX1_isPart : jx_K := (cX1_isPart, 1, RX1, 0, (Option.some Jvm.ClassFile.FieldType.boolean), "isPart", [])
def fX1_isPart (a0 : Int32) : Int32 :=
  if a0 = (0 : Int32) then
  ((1 : Int32))
  else
  (if a0 = (1 : Int32) then
  ((1 : Int32))
  else
  ((0 : Int32)))
set_option maxHeartbeats 4000000 in
set_option maxRecDepth 100000 in
theorem wX1_isPart {res : Int32}  (a0 : Int32)  (S : so_St)  (hf : fX1_isPart a0 = res) : jx_Sp 0 yX1_isPart (ws_ yX1_isPart cX1_isPart 1 (Option.some Jvm.ClassFile.FieldType.boolean)) [.int a0] S (.inl (some (.int res))) S := by
  refine jx_of (plainFor_of_name (by decide)) (so_le rfl) ?_
  show jg_ (S, S, .inl (some (.int res))) kX1_isPart 0 [(0, .int a0)] [] S
  unfold fX1_isPart at hf
  refine jr_iload_n dX1_isPart_0 rfl rfl ?_
  refine jr_if_eq (tgt := 9) dX1_isPart_1 rfl (fun c1 => ?_) (fun c1 => ?_)
  · have hf := so_t c1 hf
    refine jr_iconst dX1_isPart_9 ic_1 ?_
    refine jr_goto (tgt := 14) dX1_isPart_10 rfl ?_
    obtain rfl := hf
    exact jr_iret rfl rfl dX1_isPart_14
  · have hf := so_f c1 hf
    refine jr_iload_n dX1_isPart_4 rfl rfl ?_
    refine jr_iconst dX1_isPart_5 ic_1 ?_
    refine jr_icmp_ne (tgt := 13) dX1_isPart_6 rfl (fun c2 => ?_) (fun c2 => ?_)
    · have hf := so_f c2 hf
      refine jr_iconst dX1_isPart_13 ic_0 ?_
      obtain rfl := hf
      exact jr_iret rfl rfl dX1_isPart_14
    · have hf := so_t c2 hf
      refine jr_iconst dX1_isPart_9 ic_1 ?_
      refine jr_goto (tgt := 14) dX1_isPart_10 rfl ?_
      obtain rfl := hf
      exact jr_iret rfl rfl dX1_isPart_14

/- X1_wall -/
abbrev kX1_wall : jx_K := (cX1_wall, 3, RX1, 7, (Option.some Jvm.ClassFile.FieldType.int), "wall", [])
def fX1_wall (a0 : Nat) (a1 : Int32) (a2 : Int32) (S : so_St) : Option ((Int32 ⊕ Nat) × so_St) :=
  (so_rk (so_R S a0 0) [1]).bind fun p1 =>
  so_b3 (fX1_needThere a0 a1 (so_I S p1 7) S) (fun r3 S4 =>
  so_b3 (fX1_need a0 (fX1_isPart a2) S4) (fun r9 S10 =>
  if a2 = (0 : Int32) then
  ((so_rk (so_R S10 a0 0) [1]).bind fun p21 =>
  (so_rk (so_R S10 p21 3) [50]).bind fun p23 =>
  so_gd (so_in a1 (so_l S10 p23)) fun _ =>
  some (.inl (so_I S10 p23 a1.toNatClampNeg), S10))
  else
  ((so_rk (so_R S10 a0 0) [1]).bind fun p16 =>
  (so_rk (so_R S10 p16 4) [50]).bind fun p18 =>
  so_gd (so_in a1 (so_l S10 p18)) fun _ =>
  some (.inl (so_I S10 p18 a1.toNatClampNeg), S10)))
  (fun x11 S12 =>
  so_gd (decide (x11 % 64 ∈ [27])) fun _ =>
  some (.inr x11, S12)))
  (fun x5 S6 =>
  so_gd (decide (x5 % 64 ∈ [28])) fun _ =>
  some (.inr x5, S6))
set_option maxHeartbeats 4000000 in
set_option maxRecDepth 100000 in
theorem wX1_wall {res : Int32 ⊕ Nat} {S' : so_St}  (a0 : Nat) (a1 : Int32) (a2 : Int32)  (S : so_St) (k_a0 : a0 % 64 ∈ [0]) (hf : fX1_wall a0 a1 a2 S = some (res, S')) : jx_Sp 7 yX1_wall (ws_ yX1_wall cX1_wall 3 (Option.some Jvm.ClassFile.FieldType.int)) [.ref a0, .int a1, .int a2] S (so_oi res) S' := by
  refine jx_of (plainFor_of_name (by decide)) (so_le rfl) ?_
  show jg_ (S, S', so_oi res) kX1_wall 0 [(0, .ref a0), (1, .int a1), (2, .int a2)] [] S
  unfold fX1_wall at hf
  refine jr_aload_n dX1_wall_0 rfl rfl jv_rr ?_
  refine jr_iload_n dX1_wall_1 rfl rfl ?_
  refine jr_aload_n dX1_wall_2 rfl rfl jv_rr ?_
  refine jr_getR fl_X1_22_0 k_a0 (so_n26 rfl) dX1_wall_3 ?_
  obtain ⟨p1, h2, hf⟩ := so_b hf
  obtain ⟨h2, k_p1⟩ := so_rk_s h2
  refine jr_rf h2 ?_
  refine jr_getI fl_X1_250_1 k_p1 (so_n26 rfl) dX1_wall_6 ?_
  rcases so_b3E hf with ⟨r3, S4, h7, hf⟩ | ⟨x5, S6, h7, hf⟩
  · refine jr_callM (st := []) lk_X1_152_0 (wX1_needThere a0 a1 (so_I S p1 7) S k_a0 h7) k_a0 rfl rfl rfl (so_le rfl) (so_le rfl) dX1_wall_9 ?_
    refine jr_aload_n dX1_wall_12 rfl rfl jv_rr ?_
    refine jr_iload_n dX1_wall_13 rfl rfl ?_
    refine jr_call (st := [.ref a0]) lk_X1_296 (wX1_isPart a2 S4 rfl) jk_r0 rfl rfl (so_le rfl) (so_le rfl) dX1_wall_14 ?_
    rcases so_b3E hf with ⟨r9, S10, h13, hf⟩ | ⟨x11, S12, h13, hf⟩
    · refine jr_callM (st := []) lk_X1_172_0 (wX1_need a0 (fX1_isPart a2) S4 k_a0 h13) k_a0 rfl rfl rfl (so_le rfl) (so_le rfl) dX1_wall_17 ?_
      refine jr_iload_n dX1_wall_20 rfl rfl ?_
      refine jr_if_ne (tgt := 36) dX1_wall_21 rfl (fun c15 => ?_) (fun c15 => ?_)
      · have hf := so_f c15 hf
        refine jr_aload_n dX1_wall_36 rfl rfl jv_rr ?_
        refine jr_getR fl_X1_22_0 k_a0 (so_n26 rfl) dX1_wall_37 ?_
        obtain ⟨p16, h17, hf⟩ := so_b hf
        obtain ⟨h17, k_p16⟩ := so_rk_s h17
        refine jr_rf h17 ?_
        refine jr_getR fl_X1_302_1 k_p16 (so_n26 rfl) dX1_wall_40 ?_
        obtain ⟨p18, h19, hf⟩ := so_b hf
        obtain ⟨h19, k_p18⟩ := so_rk_s h19
        refine jr_rf h19 ?_
        refine jr_iload_n dX1_wall_43 rfl rfl ?_
        obtain ⟨g20, hf⟩ := so_gdE hf
        refine jr_iaload (so_m1 k_p18) (so_inE g20) dX1_wall_44 ?_
        obtain ⟨rfl, rfl⟩ := so_e2 hf
        exact jr_iret rfl rfl dX1_wall_45
      · have hf := so_t c15 hf
        refine jr_aload_n dX1_wall_24 rfl rfl jv_rr ?_
        refine jr_getR fl_X1_22_0 k_a0 (so_n26 rfl) dX1_wall_25 ?_
        obtain ⟨p21, h22, hf⟩ := so_b hf
        obtain ⟨h22, k_p21⟩ := so_rk_s h22
        refine jr_rf h22 ?_
        refine jr_getR fl_X1_299_1 k_p21 (so_n26 rfl) dX1_wall_28 ?_
        obtain ⟨p23, h24, hf⟩ := so_b hf
        obtain ⟨h24, k_p23⟩ := so_rk_s h24
        refine jr_rf h24 ?_
        refine jr_iload_n dX1_wall_31 rfl rfl ?_
        obtain ⟨g25, hf⟩ := so_gdE hf
        refine jr_iaload (so_m1 k_p23) (so_inE g25) dX1_wall_32 ?_
        refine jr_goto (tgt := 45) dX1_wall_33 rfl ?_
        obtain ⟨rfl, rfl⟩ := so_e2 hf
        exact jr_iret rfl rfl dX1_wall_45
    · refine jr_callMX (st := []) lk_X1_172_0 (wX1_need a0 (fX1_isPart a2) S4 k_a0 h13) k_a0 rfl rfl rfl (so_le rfl) (so_le rfl) dX1_wall_17 ?_
      obtain ⟨g14, hf⟩ := so_gdE hf
      obtain ⟨rfl, rfl⟩ := so_e2 hf
      exact jr_out (so_l29 (of_decide_eq_true g14) rfl).1 (so_l29 (of_decide_eq_true g14) rfl).2 rfl
  · refine jr_callMX (st := []) lk_X1_152_0 (wX1_needThere a0 a1 (so_I S p1 7) S k_a0 h7) k_a0 rfl rfl rfl (so_le rfl) (so_le rfl) dX1_wall_9 ?_
    obtain ⟨g8, hf⟩ := so_gdE hf
    obtain ⟨rfl, rfl⟩ := so_e2 hf
    exact jr_out (so_l29 (of_decide_eq_true g8) rfl).1 (so_l29 (of_decide_eq_true g8) rfl).2 rfl

/- X0_wall -/
abbrev kX0_wall : jx_K := (cX0_wall, 5, RX0, 8, (Option.some Jvm.ClassFile.FieldType.int), "wall", tableOf [(0, 10, 13, 31), (0, 10, 17, 13)])
def fX0_wall (a0 : Nat) (a1 : Int32) (a2 : Int32) (a3 : Nat) (S : so_St) : Option (Int32 × so_St) :=
  so_b3 (fX1_wall a0 a1 a2 S) (fun r1 S2 =>
  so_gd (so_in (0 : Int32) (so_l S2 a3)) fun _ =>
  so_let (so_sL S2 a3 (0 : Int32).toNatClampNeg r1.toInt64) fun S9 =>
  some ((0 : Int32), S9))
  (fun x3 S4 =>
  if x3 % 64 = 27 then
  (some ((2 : Int32), S4))
  else
  if x3 % 64 = 28 then
  (some ((1 : Int32), S4))
  else
  none)
set_option maxHeartbeats 4000000 in
set_option maxRecDepth 100000 in
theorem wX0_wall {res : Int32} {S' : so_St}  (a0 : Nat) (a1 : Int32) (a2 : Int32) (a3 : Nat)  (S : so_St) (k_a0 : a0 % 64 ∈ [0]) (k_a3 : a3 % 64 ∈ [53]) (hf : fX0_wall a0 a1 a2 a3 S = some (res, S')) : jx_Sp 8 yX0_wall (wsW_ yX0_wall cX0_wall 5 (Option.some Jvm.ClassFile.FieldType.int) [(0, 10, 13, 31), (0, 10, 17, 13)]) [.ref a0, .int a1, .int a2, .ref a3] S (.inl (some (.int res))) S' := by
  refine jx_ofW (by decide) (so_le rfl) ?_
  show jg_ (S, S', .inl (some (.int res))) kX0_wall 0 [(0, .ref a0), (1, .int a1), (2, .int a2), (3, .ref a3)] [] S
  unfold fX0_wall at hf
  refine jr_aload_n dX0_wall_0 rfl rfl jv_rr ?_
  refine jr_iconst dX0_wall_1 ic_0 ?_
  refine jr_aload_n dX0_wall_2 rfl rfl jv_rr ?_
  refine jr_iload_n dX0_wall_3 rfl rfl ?_
  refine jr_iload_n dX0_wall_4 rfl rfl ?_
  rcases so_b3E hf with ⟨r1, S2, h5, hf⟩ | ⟨x3, S4, h5, hf⟩
  · refine jr_callM (st := [.int (0 : Int32), .ref a3]) lk_X0_36_0 (wX1_wall a0 a1 a2 S k_a0 h5) k_a0 rfl rfl rfl (so_le rfl) (so_le rfl) dX0_wall_5 ?_
    refine jr_i2l dX0_wall_8 ?_
    obtain ⟨g8, hf⟩ := so_gdE hf
    refine jr_lastore (so_m1 k_a3) (so_inE g8) dX0_wall_9 ?_
    refine so_let_e hf (fun S9 hf => ?_)
    refine jr_goto (tgt := 21) dX0_wall_10 rfl ?_
    refine jr_iconst dX0_wall_21 ic_0 ?_
    obtain ⟨rfl, rfl⟩ := so_e2 hf
    exact jr_iret rfl rfl dX0_wall_22
  · refine jr_callMX (st := [.int (0 : Int32), .ref a3]) lk_X0_36_0 (wX1_wall a0 a1 a2 S k_a0 h5) k_a0 rfl rfl rfl (so_le rfl) (so_le rfl) dX0_wall_5 ?_
    by_cases c6 : x3 % 64 = 27
    · have hf := so_t c6 hf
      refine jr_catch (by rw [c6]; decide) (by rw [c6]; decide) [(⟨0, 10, 13, 31⟩ : ExceptionTableEntry)] ⟨0, 10, 17, 13⟩ [] rfl (List.forall_mem_cons.mpr ⟨Or.inr ⟨by decide, c6, q1698⟩, fun _ h => by cases h⟩) rfl (by decide) q863 (by rw [c6]; exact q181) ?_
      refine jr_astore (lv' := [(0, .ref a0), (1, .int a1), (2, .int a2), (3, .ref a3), (4, .ref x3)]) dX0_wall_17 (so_le rfl) jv_rr rfl ?_
      refine jr_iconst dX0_wall_19 ic_2 ?_
      obtain ⟨rfl, rfl⟩ := so_e2 hf
      exact jr_iret rfl rfl dX0_wall_20
    · have hf := so_f c6 hf
      by_cases c7 : x3 % 64 = 28
      · have hf := so_t c7 hf
        refine jr_catch (by rw [c7]; decide) (by rw [c7]; decide) [] ⟨0, 10, 13, 31⟩ [(⟨0, 10, 17, 13⟩ : ExceptionTableEntry)] rfl (fun _ h => by cases h) rfl (by decide) q1698 (by rw [c7]; exact q1713) ?_
        refine jr_astore (lv' := [(0, .ref a0), (1, .int a1), (2, .int a2), (3, .ref a3), (4, .ref x3)]) dX0_wall_13 (so_le rfl) jv_rr rfl ?_
        refine jr_iconst dX0_wall_15 ic_1 ?_
        obtain ⟨rfl, rfl⟩ := so_e2 hf
        exact jr_iret rfl rfl dX0_wall_16
      · have hf := so_f c7 hf
        exact so_no hf

/- X1_needPiano -/
abbrev kX1_needPiano : jx_K := (cX1_needPiano, 2, RX1, 7, (Option.none : Option Jvm.ClassFile.FieldType), "needPiano", [])
def fX1_needPiano (a0 : Nat) (a1 : Int32) (S : so_St) : Option ((Unit ⊕ Nat) × so_St) :=
  (fX1_pianos a0 S).bind fun r2 =>
  so_b3 (fX1_needThere a0 a1 r2 S) (fun r3 S4 =>
  some (.inl (), S4))
  (fun x5 S6 =>
  so_gd (decide (x5 % 64 ∈ [28])) fun _ =>
  some (.inr x5, S6))
set_option maxHeartbeats 4000000 in
set_option maxRecDepth 100000 in
theorem wX1_needPiano {res : Unit ⊕ Nat} {S' : so_St}  (a0 : Nat) (a1 : Int32)  (S : so_St) (k_a0 : a0 % 64 ∈ [0]) (hf : fX1_needPiano a0 a1 S = some (res, S')) : jx_Sp 7 yX1_needPiano (ws_ yX1_needPiano cX1_needPiano 2 (Option.none : Option Jvm.ClassFile.FieldType)) [.ref a0, .int a1] S (so_ov res) S' := by
  refine jx_of (plainFor_of_name (by decide)) (so_le rfl) ?_
  show jg_ (S, S', so_ov res) kX1_needPiano 0 [(0, .ref a0), (1, .int a1)] [] S
  unfold fX1_needPiano at hf
  refine jr_aload_n dX1_needPiano_0 rfl rfl jv_rr ?_
  refine jr_iload_n dX1_needPiano_1 rfl rfl ?_
  refine jr_aload_n dX1_needPiano_2 rfl rfl jv_rr ?_
  obtain ⟨r2, h1, hf⟩ := so_b hf
  refine jr_callM (st := [.int a1, .ref a0]) lk_X1_156_0 (wX1_pianos a0 S k_a0 h1) k_a0 rfl rfl rfl (so_le rfl) (so_le rfl) dX1_needPiano_3 ?_
  rcases so_b3E hf with ⟨r3, S4, h7, hf⟩ | ⟨x5, S6, h7, hf⟩
  · refine jr_callM (st := []) lk_X1_152_0 (wX1_needThere a0 a1 r2 S k_a0 h7) k_a0 rfl rfl rfl (so_le rfl) (so_le rfl) dX1_needPiano_6 ?_
    obtain ⟨rfl, rfl⟩ := so_e2 hf
    exact jr_vret rfl dX1_needPiano_9
  · refine jr_callMX (st := []) lk_X1_152_0 (wX1_needThere a0 a1 r2 S k_a0 h7) k_a0 rfl rfl rfl (so_le rfl) (so_le rfl) dX1_needPiano_6 ?_
    obtain ⟨g8, hf⟩ := so_gdE hf
    obtain ⟨rfl, rfl⟩ := so_e2 hf
    exact jr_out (so_l29 (of_decide_eq_true g8) rfl).1 (so_l29 (of_decide_eq_true g8) rfl).2 rfl

/- X1_piano -/
abbrev kX1_piano : jx_K := (cX1_piano, 3, RX1, 1205, (Option.some Jvm.ClassFile.FieldType.int), "piano", [])
def fX1_piano (a0 : Nat) (a1 : Int32) (a2 : Int32) (S : so_St) : Option ((Int32 ⊕ Nat) × so_St) :=
  so_b3 (fX1_needPiano a0 a1 S) (fun r1 S2 =>
  so_b3 (fX1_need a0 (fX1_isIn a2 (0 : Int32) (7 : Int32)) S2) (fun r7 S8 =>
  if a2 = (0 : Int32) then
  ((fX1_pianoOf a0 a1 S8).bind fun r15 =>
  so_gd (decide (r15 % 64 ∈ [4])) fun _ =>
  some (.inl (so_I S8 r15 0), S8))
  else
  if a2 = (1 : Int32) then
  ((fX1_pianoOf a0 a1 S8).bind fun r19 =>
  so_gd (decide (r19 % 64 ∈ [4])) fun _ =>
  some (.inl (so_I S8 r19 1), S8))
  else
  if a2 = (2 : Int32) then
  ((so_rk (so_R S8 a0 5) [22]).bind fun p22 =>
  (so_rk (so_R S8 p22 0) [50]).bind fun p24 =>
  so_gd (so_in a1 (so_l S8 p24)) fun _ =>
  some (.inl (so_I S8 p24 a1.toNatClampNeg), S8))
  else
  if a2 = (3 : Int32) then
  ((so_rk (so_R S8 a0 5) [22]).bind fun p28 =>
  (so_rk (so_R S8 p28 1) [50]).bind fun p30 =>
  so_gd (so_in a1 (so_l S8 p30)) fun _ =>
  some (.inl (so_I S8 p30 a1.toNatClampNeg), S8))
  else
  if a2 = (4 : Int32) then
  ((so_rk (so_R S8 a0 5) [22]).bind fun p34 =>
  (so_rk (so_R S8 p34 2) [50]).bind fun p36 =>
  so_gd (so_in a1 (so_l S8 p36)) fun _ =>
  some (.inl (so_I S8 p36 a1.toNatClampNeg), S8))
  else
  if a2 = (5 : Int32) then
  ((so_rk (so_R S8 a0 5) [22]).bind fun p40 =>
  so_b2 (fX7_force p40 a1 S8) fun r43 S44 =>
  some (.inl r43, S44))
  else
  if a2 = (6 : Int32) then
  ((so_rk (so_R S8 a0 5) [22]).bind fun p46 =>
  so_b2 (fX7_brings p46 a1 S8) fun r49 S50 =>
  some (.inl r49, S50))
  else
  ((so_rk (so_R S8 a0 5) [22]).bind fun p51 =>
  (fX7_fights p51 a1 S8).bind fun r54 =>
  some (.inl r54, S8)))
  (fun x9 S10 =>
  so_gd (decide (x9 % 64 ∈ [27])) fun _ =>
  some (.inr x9, S10)))
  (fun x3 S4 =>
  so_gd (decide (x3 % 64 ∈ [28])) fun _ =>
  some (.inr x3, S4))
set_option maxHeartbeats 4000000 in
set_option maxRecDepth 100000 in
theorem wX1_piano {res : Int32 ⊕ Nat} {S' : so_St}  (a0 : Nat) (a1 : Int32) (a2 : Int32)  (S : so_St) (k_a0 : a0 % 64 ∈ [0]) (hf : fX1_piano a0 a1 a2 S = some (res, S')) : jx_Sp 1205 yX1_piano (ws_ yX1_piano cX1_piano 3 (Option.some Jvm.ClassFile.FieldType.int)) [.ref a0, .int a1, .int a2] S (so_oi res) S' := by
  refine jx_of (plainFor_of_name (by decide)) (so_le rfl) ?_
  show jg_ (S, S', so_oi res) kX1_piano 0 [(0, .ref a0), (1, .int a1), (2, .int a2)] [] S
  unfold fX1_piano at hf
  refine jr_aload_n dX1_piano_0 rfl rfl jv_rr ?_
  refine jr_iload_n dX1_piano_1 rfl rfl ?_
  rcases so_b3E hf with ⟨r1, S2, h5, hf⟩ | ⟨x3, S4, h5, hf⟩
  · refine jr_callM (st := []) lk_X1_305_0 (wX1_needPiano a0 a1 S k_a0 h5) k_a0 rfl rfl rfl (so_le rfl) (so_le rfl) dX1_piano_2 ?_
    refine jr_aload_n dX1_piano_5 rfl rfl jv_rr ?_
    refine jr_iload_n dX1_piano_6 rfl rfl ?_
    refine jr_iconst dX1_piano_7 ic_0 ?_
    refine jr_bipush dX1_piano_8 bp_7 ?_
    refine jr_call (st := [.ref a0]) lk_X1_246 (wX1_isIn a2 (0 : Int32) (7 : Int32) S2 rfl) jk_r0 rfl rfl (so_le rfl) (so_le rfl) dX1_piano_10 ?_
    rcases so_b3E hf with ⟨r7, S8, h11, hf⟩ | ⟨x9, S10, h11, hf⟩
    · refine jr_callM (st := []) lk_X1_172_0 (wX1_need a0 (fX1_isIn a2 (0 : Int32) (7 : Int32)) S2 k_a0 h11) k_a0 rfl rfl rfl (so_le rfl) (so_le rfl) dX1_piano_13 ?_
      refine jr_iload_n dX1_piano_16 rfl rfl ?_
      by_cases c13 : a2 = (0 : Int32)
      · have hf := so_t c13 hf
        refine jr_tsIn (tgt := 60) (0 : Int32) c13 dX1_piano_17 (by decide) (by decide) rfl rfl ?_
        refine jr_aload_n dX1_piano_60 rfl rfl jv_rr ?_
        refine jr_iload_n dX1_piano_61 rfl rfl ?_
        obtain ⟨r15, h14, hf⟩ := so_b hf
        obtain ⟨g16, hf⟩ := so_gdE hf
        refine jr_callM (st := []) lk_X1_308_0 (wX1_pianoOf a0 a1 S8 k_a0 h14) k_a0 rfl rfl rfl (so_le rfl) (so_le rfl) dX1_piano_62 ?_
        refine jr_getI fl_X1_312_4 (of_decide_eq_true g16) (so_n26 rfl) dX1_piano_65 ?_
        obtain ⟨rfl, rfl⟩ := so_e2 hf
        exact jr_iret rfl rfl dX1_piano_68
      · have hf := so_f c13 hf
        by_cases c17 : a2 = (1 : Int32)
        · have hf := so_t c17 hf
          refine jr_tsIn (tgt := 69) (1 : Int32) c17 dX1_piano_17 (by decide) (by decide) rfl rfl ?_
          refine jr_aload_n dX1_piano_69 rfl rfl jv_rr ?_
          refine jr_iload_n dX1_piano_70 rfl rfl ?_
          obtain ⟨r19, h18, hf⟩ := so_b hf
          obtain ⟨g20, hf⟩ := so_gdE hf
          refine jr_callM (st := []) lk_X1_308_0 (wX1_pianoOf a0 a1 S8 k_a0 h18) k_a0 rfl rfl rfl (so_le rfl) (so_le rfl) dX1_piano_71 ?_
          refine jr_getI fl_X1_314_4 (of_decide_eq_true g20) (so_n26 rfl) dX1_piano_74 ?_
          obtain ⟨rfl, rfl⟩ := so_e2 hf
          exact jr_iret rfl rfl dX1_piano_77
        · have hf := so_f c17 hf
          by_cases c21 : a2 = (2 : Int32)
          · have hf := so_t c21 hf
            refine jr_tsIn (tgt := 78) (2 : Int32) c21 dX1_piano_17 (by decide) (by decide) rfl rfl ?_
            refine jr_aload_n dX1_piano_78 rfl rfl jv_rr ?_
            refine jr_getR fl_X1_49_0 k_a0 (so_n26 rfl) dX1_piano_79 ?_
            obtain ⟨p22, h23, hf⟩ := so_b hf
            obtain ⟨h23, k_p22⟩ := so_rk_s h23
            refine jr_rf h23 ?_
            refine jr_getR fl_X1_239_22 k_p22 (so_n26 rfl) dX1_piano_82 ?_
            obtain ⟨p24, h25, hf⟩ := so_b hf
            obtain ⟨h25, k_p24⟩ := so_rk_s h25
            refine jr_rf h25 ?_
            refine jr_iload_n dX1_piano_85 rfl rfl ?_
            obtain ⟨g26, hf⟩ := so_gdE hf
            refine jr_iaload (so_m1 k_p24) (so_inE g26) dX1_piano_86 ?_
            obtain ⟨rfl, rfl⟩ := so_e2 hf
            exact jr_iret rfl rfl dX1_piano_87
          · have hf := so_f c21 hf
            by_cases c27 : a2 = (3 : Int32)
            · have hf := so_t c27 hf
              refine jr_tsIn (tgt := 88) (3 : Int32) c27 dX1_piano_17 (by decide) (by decide) rfl rfl ?_
              refine jr_aload_n dX1_piano_88 rfl rfl jv_rr ?_
              refine jr_getR fl_X1_49_0 k_a0 (so_n26 rfl) dX1_piano_89 ?_
              obtain ⟨p28, h29, hf⟩ := so_b hf
              obtain ⟨h29, k_p28⟩ := so_rk_s h29
              refine jr_rf h29 ?_
              refine jr_getR fl_X1_317_22 k_p28 (so_n26 rfl) dX1_piano_92 ?_
              obtain ⟨p30, h31, hf⟩ := so_b hf
              obtain ⟨h31, k_p30⟩ := so_rk_s h31
              refine jr_rf h31 ?_
              refine jr_iload_n dX1_piano_95 rfl rfl ?_
              obtain ⟨g32, hf⟩ := so_gdE hf
              refine jr_iaload (so_m1 k_p30) (so_inE g32) dX1_piano_96 ?_
              obtain ⟨rfl, rfl⟩ := so_e2 hf
              exact jr_iret rfl rfl dX1_piano_97
            · have hf := so_f c27 hf
              by_cases c33 : a2 = (4 : Int32)
              · have hf := so_t c33 hf
                refine jr_tsIn (tgt := 98) (4 : Int32) c33 dX1_piano_17 (by decide) (by decide) rfl rfl ?_
                refine jr_aload_n dX1_piano_98 rfl rfl jv_rr ?_
                refine jr_getR fl_X1_49_0 k_a0 (so_n26 rfl) dX1_piano_99 ?_
                obtain ⟨p34, h35, hf⟩ := so_b hf
                obtain ⟨h35, k_p34⟩ := so_rk_s h35
                refine jr_rf h35 ?_
                refine jr_getR fl_X1_320_22 k_p34 (so_n26 rfl) dX1_piano_102 ?_
                obtain ⟨p36, h37, hf⟩ := so_b hf
                obtain ⟨h37, k_p36⟩ := so_rk_s h37
                refine jr_rf h37 ?_
                refine jr_iload_n dX1_piano_105 rfl rfl ?_
                obtain ⟨g38, hf⟩ := so_gdE hf
                refine jr_iaload (so_m1 k_p36) (so_inE g38) dX1_piano_106 ?_
                obtain ⟨rfl, rfl⟩ := so_e2 hf
                exact jr_iret rfl rfl dX1_piano_107
              · have hf := so_f c33 hf
                by_cases c39 : a2 = (5 : Int32)
                · have hf := so_t c39 hf
                  refine jr_tsIn (tgt := 108) (5 : Int32) c39 dX1_piano_17 (by decide) (by decide) rfl rfl ?_
                  refine jr_aload_n dX1_piano_108 rfl rfl jv_rr ?_
                  refine jr_getR fl_X1_49_0 k_a0 (so_n26 rfl) dX1_piano_109 ?_
                  obtain ⟨p40, h41, hf⟩ := so_b hf
                  obtain ⟨h41, k_p40⟩ := so_rk_s h41
                  refine jr_rf h41 ?_
                  refine jr_iload_n dX1_piano_112 rfl rfl ?_
                  obtain ⟨r43, S44, h42, hf⟩ := so_b2E hf
                  refine jr_callM (st := []) lk_X1_323_22 (wX7_force p40 a1 S8 k_p40 h42) k_p40 rfl rfl rfl (so_le rfl) (so_le rfl) dX1_piano_113 ?_
                  obtain ⟨rfl, rfl⟩ := so_e2 hf
                  exact jr_iret rfl rfl dX1_piano_116
                · have hf := so_f c39 hf
                  by_cases c45 : a2 = (6 : Int32)
                  · have hf := so_t c45 hf
                    refine jr_tsIn (tgt := 117) (6 : Int32) c45 dX1_piano_17 (by decide) (by decide) rfl rfl ?_
                    refine jr_aload_n dX1_piano_117 rfl rfl jv_rr ?_
                    refine jr_getR fl_X1_49_0 k_a0 (so_n26 rfl) dX1_piano_118 ?_
                    obtain ⟨p46, h47, hf⟩ := so_b hf
                    obtain ⟨h47, k_p46⟩ := so_rk_s h47
                    refine jr_rf h47 ?_
                    refine jr_iload_n dX1_piano_121 rfl rfl ?_
                    obtain ⟨r49, S50, h48, hf⟩ := so_b2E hf
                    refine jr_callM (st := []) lk_X1_326_22 (wX7_brings p46 a1 S8 k_p46 h48) k_p46 rfl rfl rfl (so_le rfl) (so_le rfl) dX1_piano_122 ?_
                    obtain ⟨rfl, rfl⟩ := so_e2 hf
                    exact jr_iret rfl rfl dX1_piano_125
                  · have hf := so_f c45 hf
                    refine jr_tsOut (tgt := 126) [(0 : Int32), (1 : Int32), (2 : Int32), (3 : Int32), (4 : Int32), (5 : Int32), (6 : Int32)] (by decide) (List.forall_mem_cons.mpr ⟨c13, List.forall_mem_cons.mpr ⟨c17, List.forall_mem_cons.mpr ⟨c21, List.forall_mem_cons.mpr ⟨c27, List.forall_mem_cons.mpr ⟨c33, List.forall_mem_cons.mpr ⟨c39, List.forall_mem_cons.mpr ⟨c45, fun _ h => by cases h⟩⟩⟩⟩⟩⟩⟩) dX1_piano_17 rfl ?_
                    refine jr_aload_n dX1_piano_126 rfl rfl jv_rr ?_
                    refine jr_getR fl_X1_49_0 k_a0 (so_n26 rfl) dX1_piano_127 ?_
                    obtain ⟨p51, h52, hf⟩ := so_b hf
                    obtain ⟨h52, k_p51⟩ := so_rk_s h52
                    refine jr_rf h52 ?_
                    refine jr_iload_n dX1_piano_130 rfl rfl ?_
                    obtain ⟨r54, h53, hf⟩ := so_b hf
                    refine jr_callM (st := []) lk_X1_242_22 (wX7_fights p51 a1 S8 k_p51 h53) k_p51 rfl rfl rfl (so_le rfl) (so_le rfl) dX1_piano_131 ?_
                    obtain ⟨rfl, rfl⟩ := so_e2 hf
                    exact jr_iret rfl rfl dX1_piano_134
    · refine jr_callMX (st := []) lk_X1_172_0 (wX1_need a0 (fX1_isIn a2 (0 : Int32) (7 : Int32)) S2 k_a0 h11) k_a0 rfl rfl rfl (so_le rfl) (so_le rfl) dX1_piano_13 ?_
      obtain ⟨g12, hf⟩ := so_gdE hf
      obtain ⟨rfl, rfl⟩ := so_e2 hf
      exact jr_out (so_l29 (of_decide_eq_true g12) rfl).1 (so_l29 (of_decide_eq_true g12) rfl).2 rfl
  · refine jr_callMX (st := []) lk_X1_305_0 (wX1_needPiano a0 a1 S k_a0 h5) k_a0 rfl rfl rfl (so_le rfl) (so_le rfl) dX1_piano_2 ?_
    obtain ⟨g6, hf⟩ := so_gdE hf
    obtain ⟨rfl, rfl⟩ := so_e2 hf
    exact jr_out (so_l29 (of_decide_eq_true g6) rfl).1 (so_l29 (of_decide_eq_true g6) rfl).2 rfl

/- X0_piano -/
abbrev kX0_piano : jx_K := (cX0_piano, 5, RX0, 1206, (Option.some Jvm.ClassFile.FieldType.int), "piano", tableOf [(0, 10, 13, 31), (0, 10, 17, 13)])
def fX0_piano (a0 : Nat) (a1 : Int32) (a2 : Int32) (a3 : Nat) (S : so_St) : Option (Int32 × so_St) :=
  so_b3 (fX1_piano a0 a1 a2 S) (fun r1 S2 =>
  so_gd (so_in (0 : Int32) (so_l S2 a3)) fun _ =>
  so_let (so_sL S2 a3 (0 : Int32).toNatClampNeg r1.toInt64) fun S9 =>
  some ((0 : Int32), S9))
  (fun x3 S4 =>
  if x3 % 64 = 27 then
  (some ((2 : Int32), S4))
  else
  if x3 % 64 = 28 then
  (some ((1 : Int32), S4))
  else
  none)
set_option maxHeartbeats 4000000 in
set_option maxRecDepth 100000 in
theorem wX0_piano {res : Int32} {S' : so_St}  (a0 : Nat) (a1 : Int32) (a2 : Int32) (a3 : Nat)  (S : so_St) (k_a0 : a0 % 64 ∈ [0]) (k_a3 : a3 % 64 ∈ [53]) (hf : fX0_piano a0 a1 a2 a3 S = some (res, S')) : jx_Sp 1206 yX0_piano (wsW_ yX0_piano cX0_piano 5 (Option.some Jvm.ClassFile.FieldType.int) [(0, 10, 13, 31), (0, 10, 17, 13)]) [.ref a0, .int a1, .int a2, .ref a3] S (.inl (some (.int res))) S' := by
  refine jx_ofW (by decide) (so_le rfl) ?_
  show jg_ (S, S', .inl (some (.int res))) kX0_piano 0 [(0, .ref a0), (1, .int a1), (2, .int a2), (3, .ref a3)] [] S
  unfold fX0_piano at hf
  refine jr_aload_n dX0_piano_0 rfl rfl jv_rr ?_
  refine jr_iconst dX0_piano_1 ic_0 ?_
  refine jr_aload_n dX0_piano_2 rfl rfl jv_rr ?_
  refine jr_iload_n dX0_piano_3 rfl rfl ?_
  refine jr_iload_n dX0_piano_4 rfl rfl ?_
  rcases so_b3E hf with ⟨r1, S2, h5, hf⟩ | ⟨x3, S4, h5, hf⟩
  · refine jr_callM (st := [.int (0 : Int32), .ref a3]) lk_X0_39_0 (wX1_piano a0 a1 a2 S k_a0 h5) k_a0 rfl rfl rfl (so_le rfl) (so_le rfl) dX0_piano_5 ?_
    refine jr_i2l dX0_piano_8 ?_
    obtain ⟨g8, hf⟩ := so_gdE hf
    refine jr_lastore (so_m1 k_a3) (so_inE g8) dX0_piano_9 ?_
    refine so_let_e hf (fun S9 hf => ?_)
    refine jr_goto (tgt := 21) dX0_piano_10 rfl ?_
    refine jr_iconst dX0_piano_21 ic_0 ?_
    obtain ⟨rfl, rfl⟩ := so_e2 hf
    exact jr_iret rfl rfl dX0_piano_22
  · refine jr_callMX (st := [.int (0 : Int32), .ref a3]) lk_X0_39_0 (wX1_piano a0 a1 a2 S k_a0 h5) k_a0 rfl rfl rfl (so_le rfl) (so_le rfl) dX0_piano_5 ?_
    by_cases c6 : x3 % 64 = 27
    · have hf := so_t c6 hf
      refine jr_catch (by rw [c6]; decide) (by rw [c6]; decide) [(⟨0, 10, 13, 31⟩ : ExceptionTableEntry)] ⟨0, 10, 17, 13⟩ [] rfl (List.forall_mem_cons.mpr ⟨Or.inr ⟨by decide, c6, q1698⟩, fun _ h => by cases h⟩) rfl (by decide) q863 (by rw [c6]; exact q181) ?_
      refine jr_astore (lv' := [(0, .ref a0), (1, .int a1), (2, .int a2), (3, .ref a3), (4, .ref x3)]) dX0_piano_17 (so_le rfl) jv_rr rfl ?_
      refine jr_iconst dX0_piano_19 ic_2 ?_
      obtain ⟨rfl, rfl⟩ := so_e2 hf
      exact jr_iret rfl rfl dX0_piano_20
    · have hf := so_f c6 hf
      by_cases c7 : x3 % 64 = 28
      · have hf := so_t c7 hf
        refine jr_catch (by rw [c7]; decide) (by rw [c7]; decide) [] ⟨0, 10, 13, 31⟩ [(⟨0, 10, 17, 13⟩ : ExceptionTableEntry)] rfl (fun _ h => by cases h) rfl (by decide) q1698 (by rw [c7]; exact q1713) ?_
        refine jr_astore (lv' := [(0, .ref a0), (1, .int a1), (2, .int a2), (3, .ref a3), (4, .ref x3)]) dX0_piano_13 (so_le rfl) jv_rr rfl ?_
        refine jr_iconst dX0_piano_15 ic_1 ?_
        obtain ⟨rfl, rfl⟩ := so_e2 hf
        exact jr_iret rfl rfl dX0_piano_16
      · have hf := so_f c7 hf
        exact so_no hf

/- X1_would -/
abbrev kX1_would : jx_K := (cX1_would, 9, RX1, 1202, (Option.some Jvm.ClassFile.FieldType.int), "would", [])
def fX1_would (a0 : Nat) (a1 : Int32) (a2 : Int32) (a3 : Int32) (a4 : Int32) (a5 : Int32) (a6 : Int32) (a7 : Int32) (a8 : Int32) (S : so_St) : Option ((Int32 ⊕ Nat) × so_St) :=
  so_j (κ := Int32 → Option ((Int32 ⊕ Nat) × so_St)) (ρ := Option ((Int32 ⊕ Nat) × so_St)) (fun (v1 : Int32) =>
  so_b3 (fX1_need a0 v1 S) (fun r3 S4 =>
  so_b2 (fX1_forceBy a0 a1 a2 a3 a4 a5 a6 a7 a8 S4) fun r10 S11 =>
  some (.inl r10, S11))
  (fun x5 S6 =>
  so_gd (decide (x5 % 64 ∈ [27])) fun _ =>
  some (.inr x5, S6)))
  (fun J2 =>
  so_j (κ := Unit → Option ((Int32 ⊕ Nat) × so_St)) (ρ := Option ((Int32 ⊕ Nat) × so_St)) (fun (_u : Unit) =>
  J2 (0 : Int32))
  (fun J12 =>
  if (fX1_isIn a1 (1 : Int32) (9 : Int32)) = (0 : Int32) then
  (J12 ())
  else
  (if (fX1_isIn a2 (0 : Int32) (9 : Int32)) = (0 : Int32) then
  (J12 ())
  else
  (if (fX1_isIn a3 (0 : Int32) (999 : Int32)) = (0 : Int32) then
  (J12 ())
  else
  (if (fX1_isIn a4 (0 : Int32) (99 : Int32)) = (0 : Int32) then
  (J12 ())
  else
  (if (fX1_isThing a5) = (0 : Int32) then
  (J12 ())
  else
  (if (fX1_isIn a6 (0 : Int32) (5 : Int32)) = (0 : Int32) then
  (J12 ())
  else
  (if (fX1_isIn a7 (0 : Int32) (7 : Int32)) = (0 : Int32) then
  (J12 ())
  else
  (if (fX1_isIn a8 (0 : Int32) (500 : Int32)) = (0 : Int32) then
  (J12 ())
  else
  (J2 (1 : Int32)))))))))))
set_option maxHeartbeats 4000000 in
set_option maxRecDepth 100000 in
theorem wX1_would {res : Int32 ⊕ Nat} {S' : so_St}  (a0 : Nat) (a1 : Int32) (a2 : Int32) (a3 : Int32) (a4 : Int32) (a5 : Int32) (a6 : Int32) (a7 : Int32) (a8 : Int32)  (S : so_St) (k_a0 : a0 % 64 ∈ [0]) (hf : fX1_would a0 a1 a2 a3 a4 a5 a6 a7 a8 S = some (res, S')) : jx_Sp 1202 yX1_would (ws_ yX1_would cX1_would 9 (Option.some Jvm.ClassFile.FieldType.int)) [.ref a0, .int a1, .int a2, .int a3, .int a4, .int a5, .int a6, .int a7, .int a8] S (so_oi res) S' := by
  refine jx_of (plainFor_of_name (by decide)) (so_le rfl) ?_
  show jg_ (S, S', so_oi res) kX1_would 0 [(0, .ref a0), (1, .int a1), (2, .int a2), (3, .int a3), (4, .int a4), (5, .int a5), (6, .int a6), (7, .int a7), (8, .int a8)] [] S
  unfold fX1_would at hf
  refine jr_aload_n dX1_would_0 rfl rfl jv_rr ?_
  refine jr_iload_n dX1_would_1 rfl rfl ?_
  refine jr_iconst dX1_would_2 ic_1 ?_
  refine jr_bipush dX1_would_3 bp_9 ?_
  refine jr_call (st := [.ref a0]) lk_X1_246 (wX1_isIn a1 (1 : Int32) (9 : Int32) S rfl) jk_r0 rfl rfl (so_le rfl) (so_le rfl) dX1_would_5 ?_
  refine so_jE hf (fun J => ∀ (v1 : Int32), J v1 = some (res, S') → jg_ (S, S', so_oi res) kX1_would 89 [(0, .ref a0), (1, .int a1), (2, .int a2), (3, .int a3), (4, .int a4), (5, .int a5), (6, .int a6), (7, .int a7), (8, .int a8)] [.int v1, .ref a0] S) (fun v1 hf => ?_) (fun J2 hJ2 hf => ?_)
  · rcases so_b3E hf with ⟨r3, S4, h7, hf⟩ | ⟨x5, S6, h7, hf⟩
    · refine jr_callM (st := []) lk_X1_172_0 (wX1_need a0 v1 S k_a0 h7) k_a0 rfl rfl rfl (so_le rfl) (so_le rfl) dX1_would_89 ?_
      refine jr_aload_n dX1_would_92 rfl rfl jv_rr ?_
      refine jr_iload_n dX1_would_93 rfl rfl ?_
      refine jr_iload_n dX1_would_94 rfl rfl ?_
      refine jr_iload_n dX1_would_95 rfl rfl ?_
      refine jr_iload dX1_would_96 rfl ?_
      refine jr_iload dX1_would_98 rfl ?_
      refine jr_iload dX1_would_100 rfl ?_
      refine jr_iload dX1_would_102 rfl ?_
      refine jr_iload dX1_would_104 rfl ?_
      obtain ⟨r10, S11, h9, hf⟩ := so_b2E hf
      refine jr_callM (st := []) lk_X1_329_0 (wX1_forceBy a0 a1 a2 a3 a4 a5 a6 a7 a8 S4 k_a0 h9) k_a0 rfl rfl rfl (so_le rfl) (so_le rfl) dX1_would_106 ?_
      obtain ⟨rfl, rfl⟩ := so_e2 hf
      exact jr_iret rfl rfl dX1_would_109
    · refine jr_callMX (st := []) lk_X1_172_0 (wX1_need a0 v1 S k_a0 h7) k_a0 rfl rfl rfl (so_le rfl) (so_le rfl) dX1_would_89 ?_
      obtain ⟨g8, hf⟩ := so_gdE hf
      obtain ⟨rfl, rfl⟩ := so_e2 hf
      exact jr_out (so_l29 (of_decide_eq_true g8) rfl).1 (so_l29 (of_decide_eq_true g8) rfl).2 rfl
  · refine so_jE hf (fun J => ∀ (u0 : Unit), J u0 = some (res, S') → jg_ (S, S', so_oi res) kX1_would 88 [(0, .ref a0), (1, .int a1), (2, .int a2), (3, .int a3), (4, .int a4), (5, .int a5), (6, .int a6), (7, .int a7), (8, .int a8)] [.ref a0] S) (fun _u hf => ?_) (fun J12 hJ12 hf => ?_)
    · refine jr_iconst dX1_would_88 ic_0 ?_
      exact hJ2 (0 : Int32) hf
    · refine jr_if_eq (tgt := 88) dX1_would_8 rfl (fun c13 => ?_) (fun c13 => ?_)
      · have hf := so_t c13 hf
        exact hJ12 () hf
      · have hf := so_f c13 hf
        refine jr_iload_n dX1_would_11 rfl rfl ?_
        refine jr_iconst dX1_would_12 ic_0 ?_
        refine jr_bipush dX1_would_13 bp_9 ?_
        refine jr_call (st := [.ref a0]) lk_X1_246 (wX1_isIn a2 (0 : Int32) (9 : Int32) S rfl) jk_r0 rfl rfl (so_le rfl) (so_le rfl) dX1_would_15 ?_
        refine jr_if_eq (tgt := 88) dX1_would_18 rfl (fun c14 => ?_) (fun c14 => ?_)
        · have hf := so_t c14 hf
          exact hJ12 () hf
        · have hf := so_f c14 hf
          refine jr_iload_n dX1_would_21 rfl rfl ?_
          refine jr_iconst dX1_would_22 ic_0 ?_
          refine jr_sipush dX1_would_23 sp_999 ?_
          refine jr_call (st := [.ref a0]) lk_X1_246 (wX1_isIn a3 (0 : Int32) (999 : Int32) S rfl) jk_r0 rfl rfl (so_le rfl) (so_le rfl) dX1_would_26 ?_
          refine jr_if_eq (tgt := 88) dX1_would_29 rfl (fun c15 => ?_) (fun c15 => ?_)
          · have hf := so_t c15 hf
            exact hJ12 () hf
          · have hf := so_f c15 hf
            refine jr_iload dX1_would_32 rfl ?_
            refine jr_iconst dX1_would_34 ic_0 ?_
            refine jr_bipush dX1_would_35 bp_99 ?_
            refine jr_call (st := [.ref a0]) lk_X1_246 (wX1_isIn a4 (0 : Int32) (99 : Int32) S rfl) jk_r0 rfl rfl (so_le rfl) (so_le rfl) dX1_would_37 ?_
            refine jr_if_eq (tgt := 88) dX1_would_40 rfl (fun c16 => ?_) (fun c16 => ?_)
            · have hf := so_t c16 hf
              exact hJ12 () hf
            · have hf := so_f c16 hf
              refine jr_iload dX1_would_43 rfl ?_
              refine jr_call (st := [.ref a0]) lk_X1_292 (wX1_isThing a5 S rfl) jk_r0 rfl rfl (so_le rfl) (so_le rfl) dX1_would_45 ?_
              refine jr_if_eq (tgt := 88) dX1_would_48 rfl (fun c17 => ?_) (fun c17 => ?_)
              · have hf := so_t c17 hf
                exact hJ12 () hf
              · have hf := so_f c17 hf
                refine jr_iload dX1_would_51 rfl ?_
                refine jr_iconst dX1_would_53 ic_0 ?_
                refine jr_iconst dX1_would_54 ic_5 ?_
                refine jr_call (st := [.ref a0]) lk_X1_246 (wX1_isIn a6 (0 : Int32) (5 : Int32) S rfl) jk_r0 rfl rfl (so_le rfl) (so_le rfl) dX1_would_55 ?_
                refine jr_if_eq (tgt := 88) dX1_would_58 rfl (fun c18 => ?_) (fun c18 => ?_)
                · have hf := so_t c18 hf
                  exact hJ12 () hf
                · have hf := so_f c18 hf
                  refine jr_iload dX1_would_61 rfl ?_
                  refine jr_iconst dX1_would_63 ic_0 ?_
                  refine jr_bipush dX1_would_64 bp_7 ?_
                  refine jr_call (st := [.ref a0]) lk_X1_246 (wX1_isIn a7 (0 : Int32) (7 : Int32) S rfl) jk_r0 rfl rfl (so_le rfl) (so_le rfl) dX1_would_66 ?_
                  refine jr_if_eq (tgt := 88) dX1_would_69 rfl (fun c19 => ?_) (fun c19 => ?_)
                  · have hf := so_t c19 hf
                    exact hJ12 () hf
                  · have hf := so_f c19 hf
                    refine jr_iload dX1_would_72 rfl ?_
                    refine jr_iconst dX1_would_74 ic_0 ?_
                    refine jr_sipush dX1_would_75 sp_500 ?_
                    refine jr_call (st := [.ref a0]) lk_X1_246 (wX1_isIn a8 (0 : Int32) (500 : Int32) S rfl) jk_r0 rfl rfl (so_le rfl) (so_le rfl) dX1_would_78 ?_
                    refine jr_if_eq (tgt := 88) dX1_would_81 rfl (fun c20 => ?_) (fun c20 => ?_)
                    · have hf := so_t c20 hf
                      exact hJ12 () hf
                    · have hf := so_f c20 hf
                      refine jr_iconst dX1_would_84 ic_1 ?_
                      refine jr_goto (tgt := 89) dX1_would_85 rfl ?_
                      exact hJ2 (1 : Int32) hf

/- X0_would -/
abbrev kX0_would : jx_K := (cX0_would, 11, RX0, 1203, (Option.some Jvm.ClassFile.FieldType.int), "would", tableOf [(0, 22, 25, 13)])
def fX0_would (a0 : Nat) (a1 : Int32) (a2 : Int32) (a3 : Int32) (a4 : Int32) (a5 : Int32) (a6 : Int32) (a7 : Int32) (a8 : Int32) (a9 : Nat) (S : so_St) : Option (Int32 × so_St) :=
  so_b3 (fX1_would a0 a1 a2 a3 a4 a5 a6 a7 a8 S) (fun r1 S2 =>
  so_gd (so_in (0 : Int32) (so_l S2 a9)) fun _ =>
  so_let (so_sL S2 a9 (0 : Int32).toNatClampNeg r1.toInt64) fun S8 =>
  some ((0 : Int32), S8))
  (fun x3 S4 =>
  if x3 % 64 = 27 then
  (some ((1 : Int32), S4))
  else
  none)
set_option maxHeartbeats 4000000 in
set_option maxRecDepth 100000 in
theorem wX0_would {res : Int32} {S' : so_St}  (a0 : Nat) (a1 : Int32) (a2 : Int32) (a3 : Int32) (a4 : Int32) (a5 : Int32) (a6 : Int32) (a7 : Int32) (a8 : Int32) (a9 : Nat)  (S : so_St) (k_a0 : a0 % 64 ∈ [0]) (k_a9 : a9 % 64 ∈ [53]) (hf : fX0_would a0 a1 a2 a3 a4 a5 a6 a7 a8 a9 S = some (res, S')) : jx_Sp 1203 yX0_would (wsW_ yX0_would cX0_would 11 (Option.some Jvm.ClassFile.FieldType.int) [(0, 22, 25, 13)]) [.ref a0, .int a1, .int a2, .int a3, .int a4, .int a5, .int a6, .int a7, .int a8, .ref a9] S (.inl (some (.int res))) S' := by
  refine jx_ofW (by decide) (so_le rfl) ?_
  show jg_ (S, S', .inl (some (.int res))) kX0_would 0 [(0, .ref a0), (1, .int a1), (2, .int a2), (3, .int a3), (4, .int a4), (5, .int a5), (6, .int a6), (7, .int a7), (8, .int a8), (9, .ref a9)] [] S
  unfold fX0_would at hf
  refine jr_aload dX0_would_0 rfl jv_rr ?_
  refine jr_iconst dX0_would_2 ic_0 ?_
  refine jr_aload_n dX0_would_3 rfl rfl jv_rr ?_
  refine jr_iload_n dX0_would_4 rfl rfl ?_
  refine jr_iload_n dX0_would_5 rfl rfl ?_
  refine jr_iload_n dX0_would_6 rfl rfl ?_
  refine jr_iload dX0_would_7 rfl ?_
  refine jr_iload dX0_would_9 rfl ?_
  refine jr_iload dX0_would_11 rfl ?_
  refine jr_iload dX0_would_13 rfl ?_
  refine jr_iload dX0_would_15 rfl ?_
  rcases so_b3E hf with ⟨r1, S2, h5, hf⟩ | ⟨x3, S4, h5, hf⟩
  · refine jr_callM (st := [.int (0 : Int32), .ref a9]) lk_X0_42_0 (wX1_would a0 a1 a2 a3 a4 a5 a6 a7 a8 S k_a0 h5) k_a0 rfl rfl rfl (so_le rfl) (so_le rfl) dX0_would_17 ?_
    refine jr_i2l dX0_would_20 ?_
    obtain ⟨g7, hf⟩ := so_gdE hf
    refine jr_lastore (so_m1 k_a9) (so_inE g7) dX0_would_21 ?_
    refine so_let_e hf (fun S8 hf => ?_)
    refine jr_goto (tgt := 29) dX0_would_22 rfl ?_
    refine jr_iconst dX0_would_29 ic_0 ?_
    obtain ⟨rfl, rfl⟩ := so_e2 hf
    exact jr_iret rfl rfl dX0_would_30
  · refine jr_callMX (st := [.int (0 : Int32), .ref a9]) lk_X0_42_0 (wX1_would a0 a1 a2 a3 a4 a5 a6 a7 a8 S k_a0 h5) k_a0 rfl rfl rfl (so_le rfl) (so_le rfl) dX0_would_17 ?_
    by_cases c6 : x3 % 64 = 27
    · have hf := so_t c6 hf
      refine jr_catch (by rw [c6]; decide) (by rw [c6]; decide) [] ⟨0, 22, 25, 13⟩ [] rfl (fun _ h => by cases h) rfl (by decide) q863 (by rw [c6]; exact q181) ?_
      refine jr_astore (lv' := [(0, .ref a0), (1, .int a1), (2, .int a2), (3, .int a3), (4, .int a4), (5, .int a5), (6, .int a6), (7, .int a7), (8, .int a8), (9, .ref a9), (10, .ref x3)]) dX0_would_25 (so_le rfl) jv_rr rfl ?_
      refine jr_iconst dX0_would_27 ic_1 ?_
      obtain ⟨rfl, rfl⟩ := so_e2 hf
      exact jr_iret rfl rfl dX0_would_28
    · have hf := so_f c6 hf
      exact so_no hf

/- X1_ahead -/
abbrev kX1_ahead : jx_K := (cX1_ahead, 6, RX1, 1206, (Option.some Jvm.ClassFile.FieldType.int), "ahead", [])
def LX1_ahead_47 (f1 : Int32) (f2 : Int32) (f3 : Int32) (f4 : Nat) (k64 : so_St → Option ((Int32 ⊕ Nat) × so_St)) : Nat → Int32 → so_St → Option ((Int32 ⊕ Nat) × so_St)
  | 0, _, _ => none
  | n + 1, v23, S24 =>
    if f2 ≤ v23 then
    (k64 S24)
    else
    ((fX7_passes f4 S24).bind fun S28 =>
    LX1_ahead_47 f1 f2 f3 f4 k64 n (v23 + (1 : Int32)) S28)
set_option maxHeartbeats 4000000 in
set_option maxRecDepth 100000 in
theorem wX1_ahead_47 {res : Int32 ⊕ Nat} {S' : so_St} {S0 : so_St}   (f1 : Int32) (f2 : Int32) (f3 : Int32) (f4 : Nat)   (k_f4 : f4 % 64 ∈ [22]) (k64 : so_St → Option ((Int32 ⊕ Nat) × so_St)) (h64 : ∀ (S29 : so_St), k64 S29 = some (res, S') → jg_ (S0, S', so_oi res) kX1_ahead 64 [(1, .int f1), (3, .int f3), (4, .ref f4)] [] S29) : ∀ (n : Nat) (v23 : Int32) (S24 : so_St), LX1_ahead_47 f1 f2 f3 f4 k64 n v23 S24 = some (res, S') → jg_ (S0, S', so_oi res) kX1_ahead 47 [(1, .int f1), (2, .int f2), (3, .int f3), (4, .ref f4), (5, .int v23)] [] S24 := by
  intro n
  induction n with
  | zero =>
    intro v23 S24 hf
    exact so_no hf
  | succ n ih =>
    intro v23 S24 hf
    rw [LX1_ahead_47] at hf
    refine jr_iload dX1_ahead_47 rfl ?_
    refine jr_iload_n dX1_ahead_49 rfl rfl ?_
    refine jr_icmp_ge (tgt := 64) dX1_ahead_50 rfl (fun c25 => ?_) (fun c25 => ?_)
    · have hf := so_t c25 hf
      refine jr_sub [0, 2, 3] rfl ?_
      exact h64 S24 hf
    · have hf := so_f c25 hf
      refine jr_aload dX1_ahead_53 rfl jv_rr ?_
      obtain ⟨S28, h26, hf⟩ := so_b hf
      refine jr_callM (st := []) lk_X1_333_22 (wX7_passes f4 S24 k_f4 h26) k_f4 rfl rfl rfl (so_le rfl) (so_le rfl) dX1_ahead_55 ?_
      refine jr_iinc (v := v23 + (1 : Int32)) (lv' := [(1, .int f1), (2, .int f2), (3, .int f3), (4, .ref f4), (5, .int (v23 + (1 : Int32)))]) dX1_ahead_58 rfl rfl (so_le rfl) rfl ?_
      refine jr_goto (tgt := 47) dX1_ahead_61 rfl ?_
      exact ih (v23 + (1 : Int32)) S28 hf
def fX1_ahead (a0 : Nat) (a1 : Int32) (a2 : Int32) (a3 : Int32) (S : so_St) : Option ((Int32 ⊕ Nat) × so_St) :=
  so_b3 (fX1_needHouse a0 a1 S) (fun r1 S2 =>
  so_j (κ := Int32 → Option ((Int32 ⊕ Nat) × so_St)) (ρ := Option ((Int32 ⊕ Nat) × so_St)) (fun (v7 : Int32) =>
  so_b3 (fX1_need a0 v7 S2) (fun r9 S10 =>
  (so_rk (so_R S10 a0 6) [22]).bind fun p15 =>
  (so_rk (so_R S10 a0 5) [22]).bind fun p17 =>
  so_b2 (fX7_becomes p15 p17 S10) fun r20 S21 =>
  so_gd (decide (r20 % 64 ∈ [22])) fun _ =>
  LX1_ahead_47 a1 a2 a3 r20 (fun (S30 : so_St) =>
  (fX7_is r20 a1 S30).bind fun r32 =>
  if a3 = (0 : Int32) then
  (some (.inl r32, S30))
  else
  ((so_rk (so_R S30 r20 3) [50]).bind fun p34 =>
  so_gd (so_in (((10 : Int32) * a1) + r32) (so_l S30 p34)) fun _ =>
  some (.inl (so_I S30 p34 (((10 : Int32) * a1) + r32).toNatClampNeg), S30))) so_N (0 : Int32) S21)
  (fun x11 S12 =>
  so_gd (decide (x11 % 64 ∈ [27])) fun _ =>
  some (.inr x11, S12)))
  (fun J8 =>
  so_j (κ := Unit → Option ((Int32 ⊕ Nat) × so_St)) (ρ := Option ((Int32 ⊕ Nat) × so_St)) (fun (_u : Unit) =>
  J8 (0 : Int32))
  (fun J37 =>
  if (fX1_isIn a2 (0 : Int32) (99 : Int32)) = (0 : Int32) then
  (J37 ())
  else
  (if (fX1_isPart a3) = (0 : Int32) then
  (J37 ())
  else
  (J8 (1 : Int32))))))
  (fun x3 S4 =>
  so_gd (decide (x3 % 64 ∈ [28])) fun _ =>
  some (.inr x3, S4))
set_option maxHeartbeats 4000000 in
set_option maxRecDepth 100000 in
theorem wX1_ahead {res : Int32 ⊕ Nat} {S' : so_St}  (a0 : Nat) (a1 : Int32) (a2 : Int32) (a3 : Int32)  (S : so_St) (k_a0 : a0 % 64 ∈ [0]) (hf : fX1_ahead a0 a1 a2 a3 S = some (res, S')) : jx_Sp 1206 yX1_ahead (ws_ yX1_ahead cX1_ahead 6 (Option.some Jvm.ClassFile.FieldType.int)) [.ref a0, .int a1, .int a2, .int a3] S (so_oi res) S' := by
  refine jx_of (plainFor_of_name (by decide)) (so_le rfl) ?_
  show jg_ (S, S', so_oi res) kX1_ahead 0 [(0, .ref a0), (1, .int a1), (2, .int a2), (3, .int a3)] [] S
  unfold fX1_ahead at hf
  refine jr_aload_n dX1_ahead_0 rfl rfl jv_rr ?_
  refine jr_iload_n dX1_ahead_1 rfl rfl ?_
  rcases so_b3E hf with ⟨r1, S2, h5, hf⟩ | ⟨x3, S4, h5, hf⟩
  · refine jr_callM (st := []) lk_X1_274_0 (wX1_needHouse a0 a1 S k_a0 h5) k_a0 rfl rfl rfl (so_le rfl) (so_le rfl) dX1_ahead_2 ?_
    refine jr_aload_n dX1_ahead_5 rfl rfl jv_rr ?_
    refine jr_iload_n dX1_ahead_6 rfl rfl ?_
    refine jr_iconst dX1_ahead_7 ic_0 ?_
    refine jr_bipush dX1_ahead_8 bp_99 ?_
    refine jr_call (st := [.ref a0]) lk_X1_246 (wX1_isIn a2 (0 : Int32) (99 : Int32) S2 rfl) jk_r0 rfl rfl (so_le rfl) (so_le rfl) dX1_ahead_10 ?_
    refine so_jE hf (fun J => ∀ (v7 : Int32), J v7 = some (res, S') → jg_ (S, S', so_oi res) kX1_ahead 28 [(0, .ref a0), (1, .int a1), (2, .int a2), (3, .int a3)] [.int v7, .ref a0] S2) (fun v7 hf => ?_) (fun J8 hJ8 hf => ?_)
    · rcases so_b3E hf with ⟨r9, S10, h13, hf⟩ | ⟨x11, S12, h13, hf⟩
      · refine jr_callM (st := []) lk_X1_172_0 (wX1_need a0 v7 S2 k_a0 h13) k_a0 rfl rfl rfl (so_le rfl) (so_le rfl) dX1_ahead_28 ?_
        refine jr_aload_n dX1_ahead_31 rfl rfl jv_rr ?_
        refine jr_getR fl_X1_53_0 k_a0 (so_n26 rfl) dX1_ahead_32 ?_
        obtain ⟨p15, h16, hf⟩ := so_b hf
        obtain ⟨h16, k_p15⟩ := so_rk_s h16
        refine jr_rf h16 ?_
        refine jr_aload_n dX1_ahead_35 rfl rfl jv_rr ?_
        refine jr_getR fl_X1_49_0 k_a0 (so_n26 rfl) dX1_ahead_36 ?_
        obtain ⟨p17, h18, hf⟩ := so_b hf
        obtain ⟨h18, k_p17⟩ := so_rk_s h18
        refine jr_rf h18 ?_
        obtain ⟨r20, S21, h19, hf⟩ := so_b2E hf
        obtain ⟨g22, hf⟩ := so_gdE hf
        refine jr_callM (st := []) lk_X1_235_22 (wX7_becomes p15 p17 S10 k_p15 k_p17 h19) k_p15 rfl rfl rfl (so_le rfl) (so_le rfl) dX1_ahead_39 ?_
        refine jr_astore (lv' := [(0, .ref a0), (1, .int a1), (2, .int a2), (3, .int a3), (4, .ref r20)]) dX1_ahead_42 (so_le rfl) jv_rr rfl ?_
        refine jr_iconst dX1_ahead_44 ic_0 ?_
        refine jr_istore (lv' := [(0, .ref a0), (1, .int a1), (2, .int a2), (3, .int a3), (4, .ref r20), (5, .int (0 : Int32))]) dX1_ahead_45 (so_le rfl) rfl ?_
        refine jr_sub [1, 2, 3, 4, 5] rfl ?_
        refine wX1_ahead_47 a1 a2 a3 r20 (of_decide_eq_true g22) _ (fun S30 hf => ?_) so_N (0 : Int32) S21 hf
        refine jr_aload dX1_ahead_64 rfl jv_rr ?_
        refine jr_iload_n dX1_ahead_66 rfl rfl ?_
        obtain ⟨r32, h31, hf⟩ := so_b hf
        refine jr_callM (st := []) lk_X1_277_22 (wX7_is r20 a1 S30 (of_decide_eq_true g22) h31) (of_decide_eq_true g22) rfl rfl rfl (so_le rfl) (so_le rfl) dX1_ahead_67 ?_
        refine jr_istore (lv' := [(1, .int a1), (3, .int a3), (4, .ref r20), (5, .int r32)]) dX1_ahead_70 (so_le rfl) rfl ?_
        refine jr_iload_n dX1_ahead_72 rfl rfl ?_
        refine jr_if_ne (tgt := 81) dX1_ahead_73 rfl (fun c33 => ?_) (fun c33 => ?_)
        · have hf := so_f c33 hf
          refine jr_aload dX1_ahead_81 rfl jv_rr ?_
          refine jr_getR fl_X1_286_22 (of_decide_eq_true g22) (so_n26 rfl) dX1_ahead_83 ?_
          obtain ⟨p34, h35, hf⟩ := so_b hf
          obtain ⟨h35, k_p34⟩ := so_rk_s h35
          refine jr_rf h35 ?_
          refine jr_bipush dX1_ahead_86 bp_10 ?_
          refine jr_iload_n dX1_ahead_88 rfl rfl ?_
          refine jr_imul dX1_ahead_89 ?_
          refine jr_iload dX1_ahead_90 rfl ?_
          refine jr_iadd dX1_ahead_92 ?_
          obtain ⟨g36, hf⟩ := so_gdE hf
          refine jr_iaload (so_m1 k_p34) (so_inE g36) dX1_ahead_93 ?_
          obtain ⟨rfl, rfl⟩ := so_e2 hf
          exact jr_iret rfl rfl dX1_ahead_94
        · have hf := so_t c33 hf
          refine jr_iload dX1_ahead_76 rfl ?_
          refine jr_goto (tgt := 94) dX1_ahead_78 rfl ?_
          obtain ⟨rfl, rfl⟩ := so_e2 hf
          exact jr_iret rfl rfl dX1_ahead_94
      · refine jr_callMX (st := []) lk_X1_172_0 (wX1_need a0 v7 S2 k_a0 h13) k_a0 rfl rfl rfl (so_le rfl) (so_le rfl) dX1_ahead_28 ?_
        obtain ⟨g14, hf⟩ := so_gdE hf
        obtain ⟨rfl, rfl⟩ := so_e2 hf
        exact jr_out (so_l29 (of_decide_eq_true g14) rfl).1 (so_l29 (of_decide_eq_true g14) rfl).2 rfl
    · refine so_jE hf (fun J => ∀ (u0 : Unit), J u0 = some (res, S') → jg_ (S, S', so_oi res) kX1_ahead 27 [(0, .ref a0), (1, .int a1), (2, .int a2), (3, .int a3)] [.ref a0] S2) (fun _u hf => ?_) (fun J37 hJ37 hf => ?_)
      · refine jr_iconst dX1_ahead_27 ic_0 ?_
        exact hJ8 (0 : Int32) hf
      · refine jr_if_eq (tgt := 27) dX1_ahead_13 rfl (fun c38 => ?_) (fun c38 => ?_)
        · have hf := so_t c38 hf
          exact hJ37 () hf
        · have hf := so_f c38 hf
          refine jr_iload_n dX1_ahead_16 rfl rfl ?_
          refine jr_call (st := [.ref a0]) lk_X1_296 (wX1_isPart a3 S2 rfl) jk_r0 rfl rfl (so_le rfl) (so_le rfl) dX1_ahead_17 ?_
          refine jr_if_eq (tgt := 27) dX1_ahead_20 rfl (fun c39 => ?_) (fun c39 => ?_)
          · have hf := so_t c39 hf
            exact hJ37 () hf
          · have hf := so_f c39 hf
            refine jr_iconst dX1_ahead_23 ic_1 ?_
            refine jr_goto (tgt := 28) dX1_ahead_24 rfl ?_
            exact hJ8 (1 : Int32) hf
  · refine jr_callMX (st := []) lk_X1_274_0 (wX1_needHouse a0 a1 S k_a0 h5) k_a0 rfl rfl rfl (so_le rfl) (so_le rfl) dX1_ahead_2 ?_
    obtain ⟨g6, hf⟩ := so_gdE hf
    obtain ⟨rfl, rfl⟩ := so_e2 hf
    exact jr_out (so_l29 (of_decide_eq_true g6) rfl).1 (so_l29 (of_decide_eq_true g6) rfl).2 rfl

/- X0_ahead -/
abbrev kX0_ahead : jx_K := (cX0_ahead, 6, RX0, 1207, (Option.some Jvm.ClassFile.FieldType.int), "ahead", tableOf [(0, 12, 15, 31), (0, 12, 19, 13)])
def fX0_ahead (a0 : Nat) (a1 : Int32) (a2 : Int32) (a3 : Int32) (a4 : Nat) (S : so_St) : Option (Int32 × so_St) :=
  so_b3 (fX1_ahead a0 a1 a2 a3 S) (fun r1 S2 =>
  so_gd (so_in (0 : Int32) (so_l S2 a4)) fun _ =>
  so_let (so_sL S2 a4 (0 : Int32).toNatClampNeg r1.toInt64) fun S9 =>
  some ((0 : Int32), S9))
  (fun x3 S4 =>
  if x3 % 64 = 27 then
  (some ((2 : Int32), S4))
  else
  if x3 % 64 = 28 then
  (some ((1 : Int32), S4))
  else
  none)
set_option maxHeartbeats 4000000 in
set_option maxRecDepth 100000 in
theorem wX0_ahead {res : Int32} {S' : so_St}  (a0 : Nat) (a1 : Int32) (a2 : Int32) (a3 : Int32) (a4 : Nat)  (S : so_St) (k_a0 : a0 % 64 ∈ [0]) (k_a4 : a4 % 64 ∈ [53]) (hf : fX0_ahead a0 a1 a2 a3 a4 S = some (res, S')) : jx_Sp 1207 yX0_ahead (wsW_ yX0_ahead cX0_ahead 6 (Option.some Jvm.ClassFile.FieldType.int) [(0, 12, 15, 31), (0, 12, 19, 13)]) [.ref a0, .int a1, .int a2, .int a3, .ref a4] S (.inl (some (.int res))) S' := by
  refine jx_ofW (by decide) (so_le rfl) ?_
  show jg_ (S, S', .inl (some (.int res))) kX0_ahead 0 [(0, .ref a0), (1, .int a1), (2, .int a2), (3, .int a3), (4, .ref a4)] [] S
  unfold fX0_ahead at hf
  refine jr_aload dX0_ahead_0 rfl jv_rr ?_
  refine jr_iconst dX0_ahead_2 ic_0 ?_
  refine jr_aload_n dX0_ahead_3 rfl rfl jv_rr ?_
  refine jr_iload_n dX0_ahead_4 rfl rfl ?_
  refine jr_iload_n dX0_ahead_5 rfl rfl ?_
  refine jr_iload_n dX0_ahead_6 rfl rfl ?_
  rcases so_b3E hf with ⟨r1, S2, h5, hf⟩ | ⟨x3, S4, h5, hf⟩
  · refine jr_callM (st := [.int (0 : Int32), .ref a4]) lk_X0_46_0 (wX1_ahead a0 a1 a2 a3 S k_a0 h5) k_a0 rfl rfl rfl (so_le rfl) (so_le rfl) dX0_ahead_7 ?_
    refine jr_i2l dX0_ahead_10 ?_
    obtain ⟨g8, hf⟩ := so_gdE hf
    refine jr_lastore (so_m1 k_a4) (so_inE g8) dX0_ahead_11 ?_
    refine so_let_e hf (fun S9 hf => ?_)
    refine jr_goto (tgt := 23) dX0_ahead_12 rfl ?_
    refine jr_iconst dX0_ahead_23 ic_0 ?_
    obtain ⟨rfl, rfl⟩ := so_e2 hf
    exact jr_iret rfl rfl dX0_ahead_24
  · refine jr_callMX (st := [.int (0 : Int32), .ref a4]) lk_X0_46_0 (wX1_ahead a0 a1 a2 a3 S k_a0 h5) k_a0 rfl rfl rfl (so_le rfl) (so_le rfl) dX0_ahead_7 ?_
    by_cases c6 : x3 % 64 = 27
    · have hf := so_t c6 hf
      refine jr_catch (by rw [c6]; decide) (by rw [c6]; decide) [(⟨0, 12, 15, 31⟩ : ExceptionTableEntry)] ⟨0, 12, 19, 13⟩ [] rfl (List.forall_mem_cons.mpr ⟨Or.inr ⟨by decide, c6, q1698⟩, fun _ h => by cases h⟩) rfl (by decide) q863 (by rw [c6]; exact q181) ?_
      refine jr_astore (lv' := [(0, .ref a0), (1, .int a1), (2, .int a2), (3, .int a3), (4, .ref a4), (5, .ref x3)]) dX0_ahead_19 (so_le rfl) jv_rr rfl ?_
      refine jr_iconst dX0_ahead_21 ic_2 ?_
      obtain ⟨rfl, rfl⟩ := so_e2 hf
      exact jr_iret rfl rfl dX0_ahead_22
    · have hf := so_f c6 hf
      by_cases c7 : x3 % 64 = 28
      · have hf := so_t c7 hf
        refine jr_catch (by rw [c7]; decide) (by rw [c7]; decide) [] ⟨0, 12, 15, 31⟩ [(⟨0, 12, 19, 13⟩ : ExceptionTableEntry)] rfl (fun _ h => by cases h) rfl (by decide) q1698 (by rw [c7]; exact q1713) ?_
        refine jr_astore (lv' := [(0, .ref a0), (1, .int a1), (2, .int a2), (3, .int a3), (4, .ref a4), (5, .ref x3)]) dX0_ahead_15 (so_le rfl) jv_rr rfl ?_
        refine jr_iconst dX0_ahead_17 ic_1 ?_
        obtain ⟨rfl, rfl⟩ := so_e2 hf
        exact jr_iret rfl rfl dX0_ahead_18
      · have hf := so_f c7 hf
        exact so_no hf

/- X1_when -/
abbrev kX1_when : jx_K := (cX1_when, 5, RX1, 1206, (Option.some Jvm.ClassFile.FieldType.int), "when", [])
def LX1_when_28 (f1 : Int32) (f2 : Int32) (f3 : Nat) : Nat → Int32 → so_St → Option ((Int32 ⊕ Nat) × so_St)
  | 0, _, _ => none
  | n + 1, v21, S22 =>
    if (200 : Int32) < v21 then
    (some (.inl (-1 : Int32), S22))
    else
    ((fX7_is f3 f1 S22).bind fun r25 =>
    if r25 = f2 then
    (some (.inl v21, S22))
    else
    ((fX7_passes f3 S22).bind fun S29 =>
    LX1_when_28 f1 f2 f3 n (v21 + (1 : Int32)) S29))
set_option maxHeartbeats 4000000 in
set_option maxRecDepth 100000 in
theorem wX1_when_28 {res : Int32 ⊕ Nat} {S' : so_St} {S0 : so_St}   (f1 : Int32) (f2 : Int32) (f3 : Nat)   (k_f3 : f3 % 64 ∈ [22]) : ∀ (n : Nat) (v21 : Int32) (S22 : so_St), LX1_when_28 f1 f2 f3 n v21 S22 = some (res, S') → jg_ (S0, S', so_oi res) kX1_when 28 [(1, .int f1), (2, .int f2), (3, .ref f3), (4, .int v21)] [] S22 := by
  intro n
  induction n with
  | zero =>
    intro v21 S22 hf
    exact so_no hf
  | succ n ih =>
    intro v21 S22 hf
    rw [LX1_when_28] at hf
    refine jr_iload dX1_when_28 rfl ?_
    refine jr_sipush dX1_when_30 sp_200 ?_
    refine jr_icmp_gt (tgt := 58) dX1_when_33 rfl (fun c23 => ?_) (fun c23 => ?_)
    · have hf := so_t c23 hf
      refine jr_iconst dX1_when_58 ic_m1 ?_
      obtain ⟨rfl, rfl⟩ := so_e2 hf
      exact jr_iret rfl rfl dX1_when_59
    · have hf := so_f c23 hf
      refine jr_aload_n dX1_when_36 rfl rfl jv_rr ?_
      refine jr_iload_n dX1_when_37 rfl rfl ?_
      obtain ⟨r25, h24, hf⟩ := so_b hf
      refine jr_callM (st := []) lk_X1_277_22 (wX7_is f3 f1 S22 k_f3 h24) k_f3 rfl rfl rfl (so_le rfl) (so_le rfl) dX1_when_38 ?_
      refine jr_iload_n dX1_when_41 rfl rfl ?_
      refine jr_icmp_ne (tgt := 48) dX1_when_42 rfl (fun c26 => ?_) (fun c26 => ?_)
      · have hf := so_f c26 hf
        refine jr_aload_n dX1_when_48 rfl rfl jv_rr ?_
        obtain ⟨S29, h27, hf⟩ := so_b hf
        refine jr_callM (st := []) lk_X1_333_22 (wX7_passes f3 S22 k_f3 h27) k_f3 rfl rfl rfl (so_le rfl) (so_le rfl) dX1_when_49 ?_
        refine jr_iinc (v := v21 + (1 : Int32)) (lv' := [(1, .int f1), (2, .int f2), (3, .ref f3), (4, .int (v21 + (1 : Int32)))]) dX1_when_52 rfl rfl (so_le rfl) rfl ?_
        refine jr_goto (tgt := 28) dX1_when_55 rfl ?_
        exact ih (v21 + (1 : Int32)) S29 hf
      · have hf := so_t c26 hf
        refine jr_iload dX1_when_45 rfl ?_
        obtain ⟨rfl, rfl⟩ := so_e2 hf
        exact jr_iret rfl rfl dX1_when_47
def fX1_when (a0 : Nat) (a1 : Int32) (a2 : Int32) (S : so_St) : Option ((Int32 ⊕ Nat) × so_St) :=
  so_b3 (fX1_needHouse a0 a1 S) (fun r1 S2 =>
  so_b3 (fX1_need a0 (fX1_isThing a2) S2) (fun r7 S8 =>
  (so_rk (so_R S8 a0 6) [22]).bind fun p13 =>
  (so_rk (so_R S8 a0 5) [22]).bind fun p15 =>
  so_b2 (fX7_becomes p13 p15 S8) fun r18 S19 =>
  so_gd (decide (r18 % 64 ∈ [22])) fun _ =>
  LX1_when_28 a1 a2 r18 so_N (0 : Int32) S19)
  (fun x9 S10 =>
  so_gd (decide (x9 % 64 ∈ [27])) fun _ =>
  some (.inr x9, S10)))
  (fun x3 S4 =>
  so_gd (decide (x3 % 64 ∈ [28])) fun _ =>
  some (.inr x3, S4))
set_option maxHeartbeats 4000000 in
set_option maxRecDepth 100000 in
theorem wX1_when {res : Int32 ⊕ Nat} {S' : so_St}  (a0 : Nat) (a1 : Int32) (a2 : Int32)  (S : so_St) (k_a0 : a0 % 64 ∈ [0]) (hf : fX1_when a0 a1 a2 S = some (res, S')) : jx_Sp 1206 yX1_when (ws_ yX1_when cX1_when 5 (Option.some Jvm.ClassFile.FieldType.int)) [.ref a0, .int a1, .int a2] S (so_oi res) S' := by
  refine jx_of (plainFor_of_name (by decide)) (so_le rfl) ?_
  show jg_ (S, S', so_oi res) kX1_when 0 [(0, .ref a0), (1, .int a1), (2, .int a2)] [] S
  unfold fX1_when at hf
  refine jr_aload_n dX1_when_0 rfl rfl jv_rr ?_
  refine jr_iload_n dX1_when_1 rfl rfl ?_
  rcases so_b3E hf with ⟨r1, S2, h5, hf⟩ | ⟨x3, S4, h5, hf⟩
  · refine jr_callM (st := []) lk_X1_274_0 (wX1_needHouse a0 a1 S k_a0 h5) k_a0 rfl rfl rfl (so_le rfl) (so_le rfl) dX1_when_2 ?_
    refine jr_aload_n dX1_when_5 rfl rfl jv_rr ?_
    refine jr_iload_n dX1_when_6 rfl rfl ?_
    refine jr_call (st := [.ref a0]) lk_X1_292 (wX1_isThing a2 S2 rfl) jk_r0 rfl rfl (so_le rfl) (so_le rfl) dX1_when_7 ?_
    rcases so_b3E hf with ⟨r7, S8, h11, hf⟩ | ⟨x9, S10, h11, hf⟩
    · refine jr_callM (st := []) lk_X1_172_0 (wX1_need a0 (fX1_isThing a2) S2 k_a0 h11) k_a0 rfl rfl rfl (so_le rfl) (so_le rfl) dX1_when_10 ?_
      refine jr_aload_n dX1_when_13 rfl rfl jv_rr ?_
      refine jr_getR fl_X1_53_0 k_a0 (so_n26 rfl) dX1_when_14 ?_
      obtain ⟨p13, h14, hf⟩ := so_b hf
      obtain ⟨h14, k_p13⟩ := so_rk_s h14
      refine jr_rf h14 ?_
      refine jr_aload_n dX1_when_17 rfl rfl jv_rr ?_
      refine jr_getR fl_X1_49_0 k_a0 (so_n26 rfl) dX1_when_18 ?_
      obtain ⟨p15, h16, hf⟩ := so_b hf
      obtain ⟨h16, k_p15⟩ := so_rk_s h16
      refine jr_rf h16 ?_
      obtain ⟨r18, S19, h17, hf⟩ := so_b2E hf
      obtain ⟨g20, hf⟩ := so_gdE hf
      refine jr_callM (st := []) lk_X1_235_22 (wX7_becomes p13 p15 S8 k_p13 k_p15 h17) k_p13 rfl rfl rfl (so_le rfl) (so_le rfl) dX1_when_21 ?_
      refine jr_astore_n (lv' := [(0, .ref a0), (1, .int a1), (2, .int a2), (3, .ref r18)]) dX1_when_24 rfl (so_le rfl) jv_rr rfl ?_
      refine jr_iconst dX1_when_25 ic_0 ?_
      refine jr_istore (lv' := [(0, .ref a0), (1, .int a1), (2, .int a2), (3, .ref r18), (4, .int (0 : Int32))]) dX1_when_26 (so_le rfl) rfl ?_
      refine jr_sub [1, 2, 3, 4] rfl ?_
      refine wX1_when_28 a1 a2 r18 (of_decide_eq_true g20) so_N (0 : Int32) S19 hf
    · refine jr_callMX (st := []) lk_X1_172_0 (wX1_need a0 (fX1_isThing a2) S2 k_a0 h11) k_a0 rfl rfl rfl (so_le rfl) (so_le rfl) dX1_when_10 ?_
      obtain ⟨g12, hf⟩ := so_gdE hf
      obtain ⟨rfl, rfl⟩ := so_e2 hf
      exact jr_out (so_l29 (of_decide_eq_true g12) rfl).1 (so_l29 (of_decide_eq_true g12) rfl).2 rfl
  · refine jr_callMX (st := []) lk_X1_274_0 (wX1_needHouse a0 a1 S k_a0 h5) k_a0 rfl rfl rfl (so_le rfl) (so_le rfl) dX1_when_2 ?_
    obtain ⟨g6, hf⟩ := so_gdE hf
    obtain ⟨rfl, rfl⟩ := so_e2 hf
    exact jr_out (so_l29 (of_decide_eq_true g6) rfl).1 (so_l29 (of_decide_eq_true g6) rfl).2 rfl
