/-! printed: functions and walks -/
set_option maxRecDepth 100000
set_option linter.unusedVariables false
/- X1_restore -/
abbrev kX1_restore : jx_K := (cX1_restore, 2, RX1, 3, (Option.some Jvm.ClassFile.FieldType.int), "restore", [])
def LX1_restore_51 (f0 : Nat) (k88 : so_St → Option (Int32 × so_St)) : Nat → Int32 → so_St → Option (Int32 × so_St)
  | 0, _, _ => none
  | n + 1, v18, S19 =>
    if (so_I S19 f0 11) ≤ v18 then
    (k88 S19)
    else
    ((so_rk (so_R S19 f0 7) [54]).bind fun p21 =>
    (so_rk (so_R S19 f0 9) [54]).bind fun p23 =>
    so_gd (so_in (((16 : Int32) * (so_I S19 f0 17)) + v18) (so_l S19 p23)) fun _ =>
    (so_rk (so_R S19 p23 (((16 : Int32) * (so_I S19 f0 17)) + v18).toNatClampNeg) [22]).bind fun p26 =>
    (fX1_kept f0 p21 v18 p26 S19).bind fun S30 =>
    LX1_restore_51 f0 k88 n (v18 + (1 : Int32)) S30)
set_option maxHeartbeats 4000000 in
set_option maxRecDepth 100000 in
theorem wX1_restore_51 {res : Int32} {S' : so_St} {S0 : so_St}   (f0 : Nat)   (k_f0 : f0 % 64 ∈ [0]) (k88 : so_St → Option (Int32 × so_St)) (h88 : ∀ (S31 : so_St), k88 S31 = some (res, S') → jg_ (S0, S', .inl (some (.int res))) kX1_restore 88 [(0, .ref f0)] [] S31) : ∀ (n : Nat) (v18 : Int32) (S19 : so_St), LX1_restore_51 f0 k88 n v18 S19 = some (res, S') → jg_ (S0, S', .inl (some (.int res))) kX1_restore 51 [(0, .ref f0), (1, .int v18)] [] S19 := by
  intro n
  induction n with
  | zero =>
    intro v18 S19 hf
    exact so_no hf
  | succ n ih =>
    intro v18 S19 hf
    rw [LX1_restore_51] at hf
    refine jr_iload_n dX1_restore_51 rfl rfl ?_
    refine jr_aload_n dX1_restore_52 rfl rfl jv_rr ?_
    refine jr_getI fl_X1_100_0 k_f0 (so_n26 rfl) dX1_restore_53 ?_
    refine jr_icmp_ge (tgt := 88) dX1_restore_56 rfl (fun c20 => ?_) (fun c20 => ?_)
    · have hf := so_t c20 hf
      refine jr_sub [0] rfl ?_
      exact h88 S19 hf
    · have hf := so_f c20 hf
      refine jr_aload_n dX1_restore_59 rfl rfl jv_rr ?_
      refine jr_aload_n dX1_restore_60 rfl rfl jv_rr ?_
      refine jr_getR fl_X1_56_0 k_f0 (so_n26 rfl) dX1_restore_61 ?_
      obtain ⟨p21, h22, hf⟩ := so_b hf
      obtain ⟨h22, k_p21⟩ := so_rk_s h22
      refine jr_rf h22 ?_
      refine jr_iload_n dX1_restore_64 rfl rfl ?_
      refine jr_aload_n dX1_restore_65 rfl rfl jv_rr ?_
      refine jr_getR fl_X1_63_0 k_f0 (so_n26 rfl) dX1_restore_66 ?_
      obtain ⟨p23, h24, hf⟩ := so_b hf
      obtain ⟨h24, k_p23⟩ := so_rk_s h24
      refine jr_rf h24 ?_
      refine jr_bipush dX1_restore_69 bp_16 ?_
      refine jr_aload_n dX1_restore_71 rfl rfl jv_rr ?_
      refine jr_getI fl_X1_109_0 k_f0 (so_n26 rfl) dX1_restore_72 ?_
      refine jr_imul dX1_restore_75 ?_
      refine jr_iload_n dX1_restore_76 rfl rfl ?_
      refine jr_iadd dX1_restore_77 ?_
      obtain ⟨g25, hf⟩ := so_gdE hf
      refine jr_aaload (Or.inl (so_m1 k_p23)) (so_inE g25) dX1_restore_78 ?_
      obtain ⟨p26, h27, hf⟩ := so_b hf
      obtain ⟨h27, k_p26⟩ := so_rk_s h27
      refine jr_rf h27 ?_
      obtain ⟨S30, h28, hf⟩ := so_b hf
      refine jr_callM (st := []) lk_X1_202_0 (wX1_kept f0 p21 v18 p26 S19 k_f0 k_p21 k_p26 h28) k_f0 rfl rfl rfl (so_le rfl) (so_le rfl) dX1_restore_79 ?_
      refine jr_iinc (v := v18 + (1 : Int32)) (lv' := [(0, .ref f0), (1, .int (v18 + (1 : Int32)))]) dX1_restore_82 rfl rfl (so_le rfl) rfl ?_
      refine jr_goto (tgt := 51) dX1_restore_85 rfl ?_
      exact ih (v18 + (1 : Int32)) S30 hf
def fX1_restore (a0 : Nat) (S : so_St) : Option (Int32 × so_St) :=
  if (so_I S a0 17) = (0 : Int32) then
  (some ((-1 : Int32), S))
  else
  (so_let (so_sI S a0 17 ((so_I S a0 17) - (1 : Int32))) fun S2 =>
  (so_rk (so_R S2 a0 5) [22]).bind fun p3 =>
  (so_rk (so_R S2 a0 8) [54]).bind fun p5 =>
  so_gd (so_in (so_I S2 a0 17) (so_l S2 p5)) fun _ =>
  (so_rk (so_R S2 p5 (so_I S2 a0 17).toNatClampNeg) [22]).bind fun p8 =>
  so_b2 (fX7_becomes p3 p8 S2) fun r11 S12 =>
  so_gd (decide (r11 % 64 ∈ [22])) fun _ =>
  (so_rk (so_R S12 a0 10) [50]).bind fun p14 =>
  so_gd (so_in (so_I S12 a0 17) (so_l S12 p14)) fun _ =>
  so_let (so_sI S12 a0 11 (so_I S12 p14 (so_I S12 a0 17).toNatClampNeg)) fun S17 =>
  LX1_restore_51 a0 (fun (S32 : so_St) =>
  so_let (so_sI S32 a0 12 (0 : Int32)) fun S33 =>
  some (so_I S33 a0 17, S33)) so_N (0 : Int32) S17)
set_option maxHeartbeats 4000000 in
set_option maxRecDepth 100000 in
theorem wX1_restore {res : Int32} {S' : so_St}  (a0 : Nat)  (S : so_St) (k_a0 : a0 % 64 ∈ [0]) (hf : fX1_restore a0 S = some (res, S')) : jx_Sp 3 yX1_restore (ws_ yX1_restore cX1_restore 2 (Option.some Jvm.ClassFile.FieldType.int)) [.ref a0] S (.inl (some (.int res))) S' := by
  refine jx_of (plainFor_of_name (by decide)) (so_le rfl) ?_
  show jg_ (S, S', .inl (some (.int res))) kX1_restore 0 [(0, .ref a0)] [] S
  unfold fX1_restore at hf
  refine jr_aload_n dX1_restore_0 rfl rfl jv_rr ?_
  refine jr_getI fl_X1_109_0 k_a0 (so_n26 rfl) dX1_restore_1 ?_
  refine jr_if_ne (tgt := 9) dX1_restore_4 rfl (fun c1 => ?_) (fun c1 => ?_)
  · have hf := so_f c1 hf
    refine jr_aload_n dX1_restore_9 rfl rfl jv_rr ?_
    refine jr_dup dX1_restore_10 rfl ?_
    refine jr_getI fl_X1_109_0 k_a0 (so_n26 rfl) dX1_restore_11 ?_
    refine jr_iconst dX1_restore_14 ic_1 ?_
    refine jr_isub dX1_restore_15 ?_
    refine jr_putI fp_X1_109_0 k_a0 (so_n26 rfl) (fun h => by cases h) rfl rfl dX1_restore_16 ?_
    refine so_let_e hf (fun S2 hf => ?_)
    refine jr_aload_n dX1_restore_19 rfl rfl jv_rr ?_
    refine jr_getR fl_X1_49_0 k_a0 (so_n26 rfl) dX1_restore_20 ?_
    obtain ⟨p3, h4, hf⟩ := so_b hf
    obtain ⟨h4, k_p3⟩ := so_rk_s h4
    refine jr_rf h4 ?_
    refine jr_aload_n dX1_restore_23 rfl rfl jv_rr ?_
    refine jr_getR fl_X1_60_0 k_a0 (so_n26 rfl) dX1_restore_24 ?_
    obtain ⟨p5, h6, hf⟩ := so_b hf
    obtain ⟨h6, k_p5⟩ := so_rk_s h6
    refine jr_rf h6 ?_
    refine jr_aload_n dX1_restore_27 rfl rfl jv_rr ?_
    refine jr_getI fl_X1_109_0 k_a0 (so_n26 rfl) dX1_restore_28 ?_
    obtain ⟨g7, hf⟩ := so_gdE hf
    refine jr_aaload (Or.inl (so_m1 k_p5)) (so_inE g7) dX1_restore_31 ?_
    obtain ⟨p8, h9, hf⟩ := so_b hf
    obtain ⟨h9, k_p8⟩ := so_rk_s h9
    refine jr_rf h9 ?_
    obtain ⟨r11, S12, h10, hf⟩ := so_b2E hf
    obtain ⟨g13, hf⟩ := so_gdE hf
    refine jr_callM (st := []) lk_X1_235_22 (wX7_becomes p3 p8 S2 k_p3 k_p8 h10) k_p3 rfl rfl rfl (so_le rfl) (so_le rfl) dX1_restore_32 ?_
    refine jr_pop dX1_restore_35 rfl ?_
    refine jr_aload_n dX1_restore_36 rfl rfl jv_rr ?_
    refine jr_aload_n dX1_restore_37 rfl rfl jv_rr ?_
    refine jr_getR fl_X1_66_0 k_a0 (so_n26 rfl) dX1_restore_38 ?_
    obtain ⟨p14, h15, hf⟩ := so_b hf
    obtain ⟨h15, k_p14⟩ := so_rk_s h15
    refine jr_rf h15 ?_
    refine jr_aload_n dX1_restore_41 rfl rfl jv_rr ?_
    refine jr_getI fl_X1_109_0 k_a0 (so_n26 rfl) dX1_restore_42 ?_
    obtain ⟨g16, hf⟩ := so_gdE hf
    refine jr_iaload (so_m1 k_p14) (so_inE g16) dX1_restore_45 ?_
    refine jr_putI fp_X1_100_0 k_a0 (so_n26 rfl) (fun h => by cases h) rfl rfl dX1_restore_46 ?_
    refine so_let_e hf (fun S17 hf => ?_)
    refine jr_iconst dX1_restore_49 ic_0 ?_
    refine jr_istore_n (lv' := [(0, .ref a0), (1, .int (0 : Int32))]) dX1_restore_50 rfl (so_le rfl) rfl ?_
    refine wX1_restore_51 a0 k_a0 _ (fun S32 hf => ?_) so_N (0 : Int32) S17 hf
    refine jr_aload_n dX1_restore_88 rfl rfl jv_rr ?_
    refine jr_iconst dX1_restore_89 ic_0 ?_
    refine jr_putI fp_X1_103_0 k_a0 (so_n26 rfl) (fun h => by cases h) rfl rfl dX1_restore_90 ?_
    refine so_let_e hf (fun S33 hf => ?_)
    refine jr_aload_n dX1_restore_93 rfl rfl jv_rr ?_
    refine jr_getI fl_X1_109_0 k_a0 (so_n26 rfl) dX1_restore_94 ?_
    obtain ⟨rfl, rfl⟩ := so_e2 hf
    exact jr_iret rfl rfl dX1_restore_97
  · have hf := so_t c1 hf
    refine jr_iconst dX1_restore_7 ic_m1 ?_
    obtain ⟨rfl, rfl⟩ := so_e2 hf
    exact jr_iret rfl rfl dX1_restore_8

/- X1_status -/
abbrev kX1_status : jx_K := (cX1_status, 2, RX1, 1, (Option.some Jvm.ClassFile.FieldType.int), "status", [])
def fX1_status (a0 : Nat) (a1 : Int32) (S : so_St) : Option Int32 :=
  if (fX1_isPart a1) = (0 : Int32) then
  (some (-1 : Int32))
  else
  ((so_rk (so_R S a0 4) [50]).bind fun p2 =>
  so_gd (so_in a1 (so_l S p2)) fun _ =>
  some (so_I S p2 a1.toNatClampNeg))
set_option maxHeartbeats 4000000 in
set_option maxRecDepth 100000 in
theorem wX1_status {res : Int32}  (a0 : Nat) (a1 : Int32)  (S : so_St) (k_a0 : a0 % 64 ∈ [0]) (hf : fX1_status a0 a1 S = some res) : jx_Sp 1 yX1_status (ws_ yX1_status cX1_status 2 (Option.some Jvm.ClassFile.FieldType.int)) [.ref a0, .int a1] S (.inl (some (.int res))) S := by
  refine jx_of (plainFor_of_name (by decide)) (so_le rfl) ?_
  show jg_ (S, S, .inl (some (.int res))) kX1_status 0 [(0, .ref a0), (1, .int a1)] [] S
  unfold fX1_status at hf
  refine jr_iload_n dX1_status_0 rfl rfl ?_
  refine jr_call (st := []) lk_X1_296 (wX1_isPart a1 S rfl) jk_r0 rfl rfl (so_le rfl) (so_le rfl) dX1_status_1 ?_
  refine jr_if_eq (tgt := 16) dX1_status_4 rfl (fun c1 => ?_) (fun c1 => ?_)
  · have hf := so_t c1 hf
    refine jr_iconst dX1_status_16 ic_m1 ?_
    obtain rfl := so_e1 hf
    exact jr_iret rfl rfl dX1_status_17
  · have hf := so_f c1 hf
    refine jr_aload_n dX1_status_7 rfl rfl jv_rr ?_
    refine jr_getR fl_X1_41_0 k_a0 (so_n26 rfl) dX1_status_8 ?_
    obtain ⟨p2, h3, hf⟩ := so_b hf
    obtain ⟨h3, k_p2⟩ := so_rk_s h3
    refine jr_rf h3 ?_
    refine jr_iload_n dX1_status_11 rfl rfl ?_
    obtain ⟨g4, hf⟩ := so_gdE hf
    refine jr_iaload (so_m1 k_p2) (so_inE g4) dX1_status_12 ?_
    refine jr_goto (tgt := 17) dX1_status_13 rfl ?_
    obtain rfl := so_e1 hf
    exact jr_iret rfl rfl dX1_status_17

/- X1_count -/
abbrev kX1_count : jx_K := (cX1_count, 2, RX1, 0, (Option.some Jvm.ClassFile.FieldType.int), "count", [])
def fX1_count (a0 : Nat) (a1 : Int32) (S : so_St) : Option Int32 :=
  if a1 = (0 : Int32) then
  (some (so_I S a0 17))
  else
  (if a1 = (1 : Int32) then
  (some (so_I S a0 15))
  else
  (if a1 = (2 : Int32) then
  (some (so_I S a0 11))
  else
  (some (-1 : Int32))))
set_option maxHeartbeats 4000000 in
set_option maxRecDepth 100000 in
theorem wX1_count {res : Int32}  (a0 : Nat) (a1 : Int32)  (S : so_St) (k_a0 : a0 % 64 ∈ [0]) (hf : fX1_count a0 a1 S = some res) : jx_Sp 0 yX1_count (ws_ yX1_count cX1_count 2 (Option.some Jvm.ClassFile.FieldType.int)) [.ref a0, .int a1] S (.inl (some (.int res))) S := by
  refine jx_of (plainFor_of_name (by decide)) (so_le rfl) ?_
  show jg_ (S, S, .inl (some (.int res))) kX1_count 0 [(0, .ref a0), (1, .int a1)] [] S
  unfold fX1_count at hf
  refine jr_iload_n dX1_count_0 rfl rfl ?_
  refine jr_if_ne (tgt := 11) dX1_count_1 rfl (fun c1 => ?_) (fun c1 => ?_)
  · have hf := so_f c1 hf
    refine jr_iload_n dX1_count_11 rfl rfl ?_
    refine jr_iconst dX1_count_12 ic_1 ?_
    refine jr_icmp_ne (tgt := 23) dX1_count_13 rfl (fun c2 => ?_) (fun c2 => ?_)
    · have hf := so_f c2 hf
      refine jr_iload_n dX1_count_23 rfl rfl ?_
      refine jr_iconst dX1_count_24 ic_2 ?_
      refine jr_icmp_ne (tgt := 35) dX1_count_25 rfl (fun c3 => ?_) (fun c3 => ?_)
      · have hf := so_f c3 hf
        refine jr_iconst dX1_count_35 ic_m1 ?_
        obtain rfl := so_e1 hf
        exact jr_iret rfl rfl dX1_count_36
      · have hf := so_t c3 hf
        refine jr_aload_n dX1_count_28 rfl rfl jv_rr ?_
        refine jr_getI fl_X1_100_0 k_a0 (so_n26 rfl) dX1_count_29 ?_
        refine jr_goto (tgt := 36) dX1_count_32 rfl ?_
        obtain rfl := so_e1 hf
        exact jr_iret rfl rfl dX1_count_36
    · have hf := so_t c2 hf
      refine jr_aload_n dX1_count_16 rfl rfl jv_rr ?_
      refine jr_getI fl_X1_158_0 k_a0 (so_n26 rfl) dX1_count_17 ?_
      refine jr_goto (tgt := 36) dX1_count_20 rfl ?_
      obtain rfl := so_e1 hf
      exact jr_iret rfl rfl dX1_count_36
  · have hf := so_t c1 hf
    refine jr_aload_n dX1_count_4 rfl rfl jv_rr ?_
    refine jr_getI fl_X1_109_0 k_a0 (so_n26 rfl) dX1_count_5 ?_
    refine jr_goto (tgt := 36) dX1_count_8 rfl ?_
    obtain rfl := so_e1 hf
    exact jr_iret rfl rfl dX1_count_36

/- X8_tellsNothing -/
abbrev kX8_tellsNothing : jx_K := (cX8_tellsNothing, 2, RX8, 0, (Option.none : Option Jvm.ClassFile.FieldType), "tellsNothing", [])
def LX8_tellsNothing_2  (k20 : tm_S → Option tm_S) : Nat → Int32 → tm_S → Option tm_S
  | 0, _, _ => none
  | n + 1, v1, S2 =>
    if (3 : Int32) ≤ v1 then
    (k20 S2)
    else
    (so_gd (so_in v1 4) fun _ =>
    tm_let (tm_up S2 3 v1.toNatClampNeg (0 : Int32)) fun S5 =>
    LX8_tellsNothing_2 k20 n (v1 + (1 : Int32)) S5)
set_option maxHeartbeats 4000000 in
set_option maxRecDepth 100000 in
theorem wX8_tellsNothing_2 {sg' : tm_S} {S0 : so_St} {sg0 : tm_S}    (hT : tm_Sh S0)   (k20 : tm_S → Option tm_S) (h20 : ∀ (S6 : tm_S), k20 S6 = some sg' → jg_ (tm_j S0 sg0, tm_j S0 sg', .inl none) kX8_tellsNothing 20 [(0, .ref (tm_a 0))] [] (tm_j S0 S6)) : ∀ (n : Nat) (v1 : Int32) (S2 : tm_S), LX8_tellsNothing_2 k20 n v1 S2 = some sg' → jg_ (tm_j S0 sg0, tm_j S0 sg', .inl none) kX8_tellsNothing 2 [(0, .ref (tm_a 0)), (1, .int v1)] [] (tm_j S0 S2) := by
  intro n
  induction n with
  | zero =>
    intro v1 S2 hf
    exact so_no hf
  | succ n ih =>
    intro v1 S2 hf
    rw [LX8_tellsNothing_2] at hf
    refine jr_iload_n dX8_tellsNothing_2 rfl rfl ?_
    refine jr_iconst dX8_tellsNothing_3 ic_3 ?_
    refine jr_icmp_ge (tgt := 20) dX8_tellsNothing_4 rfl (fun c3 => ?_) (fun c3 => ?_)
    · have hf := so_t c3 hf
      refine jr_sub [0] rfl ?_
      exact h20 S2 hf
    · have hf := so_f c3 hf
      refine jr_aload_n dX8_tellsNothing_7 rfl rfl jv_rr ?_
      refine tr_getR (c := 3) hT (List.mem_of_getElem? (i := 2) rfl) fl_X8_20_23 dX8_tellsNothing_8 ?_
      refine jr_iload_n dX8_tellsNothing_11 rfl rfl ?_
      refine jr_iconst dX8_tellsNothing_12 ic_0 ?_
      obtain ⟨g4, hf⟩ := so_gdE hf
      refine tr_iastore hT (show tm_k 3 = 50 from rfl) rfl (so_inE g4) dX8_tellsNothing_13 ?_
      refine tm_let_e hf (fun S5 hf => ?_)
      refine jr_iinc (v := v1 + (1 : Int32)) (lv' := [(0, .ref (tm_a 0)), (1, .int (v1 + (1 : Int32)))]) dX8_tellsNothing_14 rfl rfl (so_le rfl) rfl ?_
      refine jr_goto (tgt := 2) dX8_tellsNothing_17 rfl ?_
      exact ih (v1 + (1 : Int32)) S5 hf
def LX8_tellsNothing_30  : Nat → Int32 → tm_S → Option tm_S
  | 0, _, _ => none
  | n + 1, v10, S11 =>
    if (8 : Int32) ≤ v10 then
    (some S11)
    else
    (so_gd (so_in v10 8) fun _ =>
    tm_let (tm_up S11 7 v10.toNatClampNeg (-1 : Int32)) fun S14 =>
    LX8_tellsNothing_30 n (v10 + (1 : Int32)) S14)
set_option maxHeartbeats 4000000 in
set_option maxRecDepth 100000 in
theorem wX8_tellsNothing_30 {sg' : tm_S} {S0 : so_St} {sg0 : tm_S}    (hT : tm_Sh S0)   : ∀ (n : Nat) (v10 : Int32) (S11 : tm_S), LX8_tellsNothing_30 n v10 S11 = some sg' → jg_ (tm_j S0 sg0, tm_j S0 sg', .inl none) kX8_tellsNothing 30 [(0, .ref (tm_a 0)), (1, .int v10)] [] (tm_j S0 S11) := by
  intro n
  induction n with
  | zero =>
    intro v10 S11 hf
    exact so_no hf
  | succ n ih =>
    intro v10 S11 hf
    rw [LX8_tellsNothing_30] at hf
    refine jr_iload_n dX8_tellsNothing_30 rfl rfl ?_
    refine jr_bipush dX8_tellsNothing_31 bp_8 ?_
    refine jr_icmp_ge (tgt := 49) dX8_tellsNothing_33 rfl (fun c12 => ?_) (fun c12 => ?_)
    · have hf := so_t c12 hf
      obtain rfl := so_e1 hf
      exact jr_vret rfl dX8_tellsNothing_49
    · have hf := so_f c12 hf
      refine jr_aload_n dX8_tellsNothing_36 rfl rfl jv_rr ?_
      refine tr_getR (c := 7) hT (List.mem_of_getElem? (i := 6) rfl) fl_X8_32_23 dX8_tellsNothing_37 ?_
      refine jr_iload_n dX8_tellsNothing_40 rfl rfl ?_
      refine jr_iconst dX8_tellsNothing_41 ic_m1 ?_
      obtain ⟨g13, hf⟩ := so_gdE hf
      refine tr_iastore hT (show tm_k 7 = 50 from rfl) rfl (so_inE g13) dX8_tellsNothing_42 ?_
      refine tm_let_e hf (fun S14 hf => ?_)
      refine jr_iinc (v := v10 + (1 : Int32)) (lv' := [(0, .ref (tm_a 0)), (1, .int (v10 + (1 : Int32)))]) dX8_tellsNothing_43 rfl rfl (so_le rfl) rfl ?_
      refine jr_goto (tgt := 30) dX8_tellsNothing_46 rfl ?_
      exact ih (v10 + (1 : Int32)) S14 hf
def fX8_tellsNothing  (sg : tm_S) : Option tm_S :=
  LX8_tellsNothing_2 (fun (S7 : tm_S) =>
  so_gd (so_in (3 : Int32) 4) fun _ =>
  tm_let (tm_up S7 3 (3 : Int32).toNatClampNeg (12 : Int32)) fun S9 =>
  LX8_tellsNothing_30 so_N (0 : Int32) S9) so_N (0 : Int32) sg
set_option maxHeartbeats 4000000 in
set_option maxRecDepth 100000 in
theorem wX8_tellsNothing {sg' : tm_S} {S0 : so_St}   (hT : tm_Sh S0) (sg : tm_S)  (hf : fX8_tellsNothing sg = some sg') : jx_Sp 0 yX8_tellsNothing (ws_ yX8_tellsNothing cX8_tellsNothing 2 (Option.none : Option Jvm.ClassFile.FieldType)) [.ref (tm_a 0)] (tm_j S0 sg) (.inl none) (tm_j S0 sg') := by
  refine jx_of (plainFor_of_name (by decide)) (so_le rfl) ?_
  show jg_ ((tm_j S0 sg), (tm_j S0 sg'), .inl none) kX8_tellsNothing 0 [(0, .ref (tm_a 0))] [] (tm_j S0 sg)
  unfold fX8_tellsNothing at hf
  refine jr_iconst dX8_tellsNothing_0 ic_0 ?_
  refine jr_istore_n (lv' := [(0, .ref (tm_a 0)), (1, .int (0 : Int32))]) dX8_tellsNothing_1 rfl (so_le rfl) rfl ?_
  refine wX8_tellsNothing_2 hT _ (fun S7 hf => ?_) so_N (0 : Int32) sg hf
  refine jr_aload_n dX8_tellsNothing_20 rfl rfl jv_rr ?_
  refine tr_getR (c := 3) hT (List.mem_of_getElem? (i := 2) rfl) fl_X8_20_23 dX8_tellsNothing_21 ?_
  refine jr_iconst dX8_tellsNothing_24 ic_3 ?_
  refine jr_bipush dX8_tellsNothing_25 bp_12 ?_
  obtain ⟨g8, hf⟩ := so_gdE hf
  refine tr_iastore hT (show tm_k 3 = 50 from rfl) rfl (so_inE g8) dX8_tellsNothing_27 ?_
  refine tm_let_e hf (fun S9 hf => ?_)
  refine jr_iconst dX8_tellsNothing_28 ic_0 ?_
  refine jr_istore_n (lv' := [(0, .ref (tm_a 0)), (1, .int (0 : Int32))]) dX8_tellsNothing_29 rfl (so_le rfl) rfl ?_
  refine wX8_tellsNothing_30 hT so_N (0 : Int32) S9 hf

/- X8_lays -/
abbrev kX8_lays : jx_K := (cX8_lays, 5, RX8, 0, (Option.none : Option Jvm.ClassFile.FieldType), "lays", [])
def LX8_lays_10 (f0 : Nat) (f1 : Nat) (f2 : Int32) (f3 : Int32) (k37 : tm_S → Option tm_S) : Nat → Int32 → tm_S → Option tm_S
  | 0, _, _ => none
  | n + 1, v4, S5 =>
    so_gd (so_in f3 (tm_len f1)) fun _ =>
    if (Int32.ofNat (tm_len (f1 + 1 + f3.toNatClampNeg))) ≤ v4 then
    (k37 S5)
    else
    (so_gd (so_in f3 (tm_len f1)) fun _ =>
    so_gd (so_in f3 (tm_len f0)) fun _ =>
    so_gd (so_in v4 (tm_len (f0 + 1 + f3.toNatClampNeg))) fun _ =>
    so_gd (so_in v4 (tm_len (f1 + 1 + f3.toNatClampNeg))) fun _ =>
    tm_let (tm_up S5 (f1 + 1 + f3.toNatClampNeg) v4.toNatClampNeg (S5 (f0 + 1 + f3.toNatClampNeg) v4.toNatClampNeg)) fun S12 =>
    LX8_lays_10 f0 f1 f2 f3 k37 n (v4 + (1 : Int32)) S12)
set_option maxHeartbeats 4000000 in
set_option maxRecDepth 100000 in
theorem wX8_lays_10 {sg' : tm_S} {S0 : so_St} {sg0 : tm_S}   (f0 : Nat) (f1 : Nat) (f2 : Int32) (f3 : Int32) (hT : tm_Sh S0)  (k_f0 : tm_k f0 = 56) (k_f1 : tm_k f1 = 56) (k37 : tm_S → Option tm_S) (h37 : ∀ (S13 : tm_S), k37 S13 = some sg' → jg_ (tm_j S0 sg0, tm_j S0 sg', .inl none) kX8_lays 37 [(0, .ref (tm_a f0)), (1, .ref (tm_a f1)), (2, .int f2), (3, .int f3)] [] (tm_j S0 S13)) : ∀ (n : Nat) (v4 : Int32) (S5 : tm_S), LX8_lays_10 f0 f1 f2 f3 k37 n v4 S5 = some sg' → jg_ (tm_j S0 sg0, tm_j S0 sg', .inl none) kX8_lays 10 [(0, .ref (tm_a f0)), (1, .ref (tm_a f1)), (2, .int f2), (3, .int f3), (4, .int v4)] [] (tm_j S0 S5) := by
  intro n
  induction n with
  | zero =>
    intro v4 S5 hf
    exact so_no hf
  | succ n ih =>
    intro v4 S5 hf
    rw [LX8_lays_10] at hf
    refine jr_iload dX8_lays_10 rfl ?_
    refine jr_aload_n dX8_lays_12 rfl rfl jv_rr ?_
    refine jr_iload_n dX8_lays_13 rfl rfl ?_
    obtain ⟨g6, hf⟩ := so_gdE hf
    refine tr_aaload (g' := (f1 + 1)) hT k_f1 rfl rfl (so_inE g6) dX8_lays_14 ?_
    refine tr_alen hT (tm_krow k_f1 (tm_in (so_inE g6))) rfl dX8_lays_15 ?_
    refine jr_icmp_ge (tgt := 37) dX8_lays_16 rfl (fun c7 => ?_) (fun c7 => ?_)
    · have hf := so_t c7 hf
      refine jr_sub [0, 1, 2, 3] rfl ?_
      exact h37 S5 hf
    · have hf := so_f c7 hf
      refine jr_aload_n dX8_lays_19 rfl rfl jv_rr ?_
      refine jr_iload_n dX8_lays_20 rfl rfl ?_
      obtain ⟨g8, hf⟩ := so_gdE hf
      refine tr_aaload (g' := (f1 + 1)) hT k_f1 rfl rfl (so_inE g8) dX8_lays_21 ?_
      refine jr_iload dX8_lays_22 rfl ?_
      refine jr_aload_n dX8_lays_24 rfl rfl jv_rr ?_
      refine jr_iload_n dX8_lays_25 rfl rfl ?_
      obtain ⟨g9, hf⟩ := so_gdE hf
      refine tr_aaload (g' := (f0 + 1)) hT k_f0 rfl rfl (so_inE g9) dX8_lays_26 ?_
      refine jr_iload dX8_lays_27 rfl ?_
      obtain ⟨g10, hf⟩ := so_gdE hf
      refine tr_iaload hT (tm_krow k_f0 (tm_in (so_inE g9))) rfl (so_inE g10) dX8_lays_29 ?_
      obtain ⟨g11, hf⟩ := so_gdE hf
      refine tr_iastore hT (tm_krow k_f1 (tm_in (so_inE g8))) rfl (so_inE g11) dX8_lays_30 ?_
      refine tm_let_e hf (fun S12 hf => ?_)
      refine jr_iinc (v := v4 + (1 : Int32)) (lv' := [(0, .ref (tm_a f0)), (1, .ref (tm_a f1)), (2, .int f2), (3, .int f3), (4, .int (v4 + (1 : Int32)))]) dX8_lays_31 rfl rfl (so_le rfl) rfl ?_
      refine jr_goto (tgt := 10) dX8_lays_34 rfl ?_
      exact ih (v4 + (1 : Int32)) S12 hf
def LX8_lays_2 (f0 : Nat) (f1 : Nat) (f2 : Int32) : Nat → Int32 → tm_S → Option tm_S
  | 0, _, _ => none
  | n + 1, v1, S2 =>
    if f2 ≤ v1 then
    (some S2)
    else
    (LX8_lays_10 f0 f1 f2 v1 (fun (S14 : tm_S) =>
    LX8_lays_2 f0 f1 f2 n (v1 + (1 : Int32)) S14) so_N (0 : Int32) S2)
set_option maxHeartbeats 4000000 in
set_option maxRecDepth 100000 in
theorem wX8_lays_2 {sg' : tm_S} {S0 : so_St} {sg0 : tm_S}   (f0 : Nat) (f1 : Nat) (f2 : Int32) (hT : tm_Sh S0)  (k_f0 : tm_k f0 = 56) (k_f1 : tm_k f1 = 56) : ∀ (n : Nat) (v1 : Int32) (S2 : tm_S), LX8_lays_2 f0 f1 f2 n v1 S2 = some sg' → jg_ (tm_j S0 sg0, tm_j S0 sg', .inl none) kX8_lays 2 [(0, .ref (tm_a f0)), (1, .ref (tm_a f1)), (2, .int f2), (3, .int v1)] [] (tm_j S0 S2) := by
  intro n
  induction n with
  | zero =>
    intro v1 S2 hf
    exact so_no hf
  | succ n ih =>
    intro v1 S2 hf
    rw [LX8_lays_2] at hf
    refine jr_iload_n dX8_lays_2 rfl rfl ?_
    refine jr_iload_n dX8_lays_3 rfl rfl ?_
    refine jr_icmp_ge (tgt := 43) dX8_lays_4 rfl (fun c3 => ?_) (fun c3 => ?_)
    · have hf := so_t c3 hf
      obtain rfl := so_e1 hf
      exact jr_vret rfl dX8_lays_43
    · have hf := so_f c3 hf
      refine jr_iconst dX8_lays_7 ic_0 ?_
      refine jr_istore (lv' := [(0, .ref (tm_a f0)), (1, .ref (tm_a f1)), (2, .int f2), (3, .int v1), (4, .int (0 : Int32))]) dX8_lays_8 (so_le rfl) rfl ?_
      refine wX8_lays_10 f0 f1 f2 v1 hT k_f0 k_f1 _ (fun S14 hf => ?_) so_N (0 : Int32) S2 hf
      refine jr_iinc (v := v1 + (1 : Int32)) (lv' := [(0, .ref (tm_a f0)), (1, .ref (tm_a f1)), (2, .int f2), (3, .int (v1 + (1 : Int32)))]) dX8_lays_37 rfl rfl (so_le rfl) rfl ?_
      refine jr_goto (tgt := 2) dX8_lays_40 rfl ?_
      exact ih (v1 + (1 : Int32)) S14 hf
def fX8_lays (a0 : Nat) (a1 : Nat) (a2 : Int32) (sg : tm_S) : Option tm_S :=
  LX8_lays_2 a0 a1 a2 so_N (0 : Int32) sg
set_option maxHeartbeats 4000000 in
set_option maxRecDepth 100000 in
theorem wX8_lays {sg' : tm_S} {S0 : so_St}  (a0 : Nat) (a1 : Nat) (a2 : Int32) (hT : tm_Sh S0) (sg : tm_S) (k_a0 : tm_k a0 = 56) (k_a1 : tm_k a1 = 56) (hf : fX8_lays a0 a1 a2 sg = some sg') : jx_Sp 0 yX8_lays (ws_ yX8_lays cX8_lays 5 (Option.none : Option Jvm.ClassFile.FieldType)) [.ref (tm_a a0), .ref (tm_a a1), .int a2] (tm_j S0 sg) (.inl none) (tm_j S0 sg') := by
  refine jx_of (plainFor_of_name (by decide)) (so_le rfl) ?_
  show jg_ ((tm_j S0 sg), (tm_j S0 sg'), .inl none) kX8_lays 0 [(0, .ref (tm_a a0)), (1, .ref (tm_a a1)), (2, .int a2)] [] (tm_j S0 sg)
  unfold fX8_lays at hf
  refine jr_iconst dX8_lays_0 ic_0 ?_
  refine jr_istore_n (lv' := [(0, .ref (tm_a a0)), (1, .ref (tm_a a1)), (2, .int a2), (3, .int (0 : Int32))]) dX8_lays_1 rfl (so_le rfl) rfl ?_
  refine wX8_lays_2 a0 a1 a2 hT k_a0 k_a1 so_N (0 : Int32) sg hf

/- X8_beginsAnew -/
abbrev kX8_beginsAnew : jx_K := (cX8_beginsAnew, 2, RX8, 1, (Option.none : Option Jvm.ClassFile.FieldType), "beginsAnew", [])
def LX8_beginsAnew_2  (k25 : tm_S → Option tm_S) : Nat → Int32 → tm_S → Option tm_S
  | 0, _, _ => none
  | n + 1, v1, S2 =>
    if (4 : Int32) ≤ v1 then
    (k25 S2)
    else
    (so_gd (so_in v1 4) fun _ =>
    so_gd (so_in v1 4) fun _ =>
    tm_let (tm_up S2 4 v1.toNatClampNeg (S2 3 v1.toNatClampNeg)) fun S6 =>
    LX8_beginsAnew_2 k25 n (v1 + (1 : Int32)) S6)
set_option maxHeartbeats 4000000 in
set_option maxRecDepth 100000 in
theorem wX8_beginsAnew_2 {sg' : tm_S} {S0 : so_St} {sg0 : tm_S}    (hT : tm_Sh S0)   (k25 : tm_S → Option tm_S) (h25 : ∀ (S7 : tm_S), k25 S7 = some sg' → jg_ (tm_j S0 sg0, tm_j S0 sg', .inl none) kX8_beginsAnew 25 [(0, .ref (tm_a 0))] [] (tm_j S0 S7)) : ∀ (n : Nat) (v1 : Int32) (S2 : tm_S), LX8_beginsAnew_2 k25 n v1 S2 = some sg' → jg_ (tm_j S0 sg0, tm_j S0 sg', .inl none) kX8_beginsAnew 2 [(0, .ref (tm_a 0)), (1, .int v1)] [] (tm_j S0 S2) := by
  intro n
  induction n with
  | zero =>
    intro v1 S2 hf
    exact so_no hf
  | succ n ih =>
    intro v1 S2 hf
    rw [LX8_beginsAnew_2] at hf
    refine jr_iload_n dX8_beginsAnew_2 rfl rfl ?_
    refine jr_iconst dX8_beginsAnew_3 ic_4 ?_
    refine jr_icmp_ge (tgt := 25) dX8_beginsAnew_4 rfl (fun c3 => ?_) (fun c3 => ?_)
    · have hf := so_t c3 hf
      refine jr_sub [0] rfl ?_
      exact h25 S2 hf
    · have hf := so_f c3 hf
      refine jr_aload_n dX8_beginsAnew_7 rfl rfl jv_rr ?_
      refine tr_getR (c := 4) hT (List.mem_of_getElem? (i := 3) rfl) fl_X8_23_23 dX8_beginsAnew_8 ?_
      refine jr_iload_n dX8_beginsAnew_11 rfl rfl ?_
      refine jr_aload_n dX8_beginsAnew_12 rfl rfl jv_rr ?_
      refine tr_getR (c := 3) hT (List.mem_of_getElem? (i := 2) rfl) fl_X8_20_23 dX8_beginsAnew_13 ?_
      refine jr_iload_n dX8_beginsAnew_16 rfl rfl ?_
      obtain ⟨g4, hf⟩ := so_gdE hf
      refine tr_iaload hT (show tm_k 3 = 50 from rfl) rfl (so_inE g4) dX8_beginsAnew_17 ?_
      obtain ⟨g5, hf⟩ := so_gdE hf
      refine tr_iastore hT (show tm_k 4 = 50 from rfl) rfl (so_inE g5) dX8_beginsAnew_18 ?_
      refine tm_let_e hf (fun S6 hf => ?_)
      refine jr_iinc (v := v1 + (1 : Int32)) (lv' := [(0, .ref (tm_a 0)), (1, .int (v1 + (1 : Int32)))]) dX8_beginsAnew_19 rfl rfl (so_le rfl) rfl ?_
      refine jr_goto (tgt := 2) dX8_beginsAnew_22 rfl ?_
      exact ih (v1 + (1 : Int32)) S6 hf
def LX8_beginsAnew_27  (k46 : tm_S → Option tm_S) : Nat → Int32 → tm_S → Option tm_S
  | 0, _, _ => none
  | n + 1, v9, S10 =>
    if (100 : Int32) ≤ v9 then
    (k46 S10)
    else
    (so_gd (so_in v9 100) fun _ =>
    tm_let (tm_up S10 468 v9.toNatClampNeg (0 : Int32)) fun S13 =>
    LX8_beginsAnew_27 k46 n (v9 + (1 : Int32)) S13)
set_option maxHeartbeats 4000000 in
set_option maxRecDepth 100000 in
theorem wX8_beginsAnew_27 {sg' : tm_S} {S0 : so_St} {sg0 : tm_S}    (hT : tm_Sh S0)   (k46 : tm_S → Option tm_S) (h46 : ∀ (S14 : tm_S), k46 S14 = some sg' → jg_ (tm_j S0 sg0, tm_j S0 sg', .inl none) kX8_beginsAnew 46 [(0, .ref (tm_a 0))] [] (tm_j S0 S14)) : ∀ (n : Nat) (v9 : Int32) (S10 : tm_S), LX8_beginsAnew_27 k46 n v9 S10 = some sg' → jg_ (tm_j S0 sg0, tm_j S0 sg', .inl none) kX8_beginsAnew 27 [(0, .ref (tm_a 0)), (1, .int v9)] [] (tm_j S0 S10) := by
  intro n
  induction n with
  | zero =>
    intro v9 S10 hf
    exact so_no hf
  | succ n ih =>
    intro v9 S10 hf
    rw [LX8_beginsAnew_27] at hf
    refine jr_iload_n dX8_beginsAnew_27 rfl rfl ?_
    refine jr_bipush dX8_beginsAnew_28 bp_100 ?_
    refine jr_icmp_ge (tgt := 46) dX8_beginsAnew_30 rfl (fun c11 => ?_) (fun c11 => ?_)
    · have hf := so_t c11 hf
      refine jr_sub [0] rfl ?_
      exact h46 S10 hf
    · have hf := so_f c11 hf
      refine jr_aload_n dX8_beginsAnew_33 rfl rfl jv_rr ?_
      refine tr_getR (c := 468) hT (List.mem_of_getElem? (i := 19) rfl) fl_X8_73_23 dX8_beginsAnew_34 ?_
      refine jr_iload_n dX8_beginsAnew_37 rfl rfl ?_
      refine jr_iconst dX8_beginsAnew_38 ic_0 ?_
      obtain ⟨g12, hf⟩ := so_gdE hf
      refine tr_iastore hT (show tm_k 468 = 50 from rfl) rfl (so_inE g12) dX8_beginsAnew_39 ?_
      refine tm_let_e hf (fun S13 hf => ?_)
      refine jr_iinc (v := v9 + (1 : Int32)) (lv' := [(0, .ref (tm_a 0)), (1, .int (v9 + (1 : Int32)))]) dX8_beginsAnew_40 rfl rfl (so_le rfl) rfl ?_
      refine jr_goto (tgt := 27) dX8_beginsAnew_43 rfl ?_
      exact ih (v9 + (1 : Int32)) S13 hf
def LX8_beginsAnew_48  (k114 : tm_S → Option tm_S) : Nat → Int32 → tm_S → Option tm_S
  | 0, _, _ => none
  | n + 1, v16, S17 =>
    if (8 : Int32) ≤ v16 then
    (k114 S17)
    else
    (so_gd (so_in v16 8) fun _ =>
    so_gd (so_in v16 8) fun _ =>
    tm_let (tm_up S17 6 v16.toNatClampNeg (S17 5 v16.toNatClampNeg)) fun S21 =>
    so_gd (so_in v16 8) fun _ =>
    so_gd (so_in v16 8) fun _ =>
    tm_let (tm_up S21 8 v16.toNatClampNeg (S21 7 v16.toNatClampNeg)) fun S24 =>
    so_gd (so_in (0 : Int32) 4) fun _ =>
    so_j (κ := tm_S → Option tm_S) (ρ := Option tm_S) (fun (S26 : tm_S) =>
    LX8_beginsAnew_48 k114 n (v16 + (1 : Int32)) S26)
    (fun J27 =>
    if (S24 4 (0 : Int32).toNatClampNeg) ≤ v16 then
    (J27 S24)
    else
    (so_gd (so_in v16 8) fun _ =>
    so_gd (so_in (((0 : Int32) + ((10 : Int32) * v16)) + (S24 6 v16.toNatClampNeg)) 100) fun _ =>
    tm_let (tm_up S24 468 (((0 : Int32) + ((10 : Int32) * v16)) + (S24 6 v16.toNatClampNeg)).toNatClampNeg (50 : Int32)) fun S31 =>
    J27 S31)))
set_option maxHeartbeats 4000000 in
set_option maxRecDepth 100000 in
theorem wX8_beginsAnew_48 {sg' : tm_S} {S0 : so_St} {sg0 : tm_S}    (hT : tm_Sh S0)   (k114 : tm_S → Option tm_S) (h114 : ∀ (S32 : tm_S), k114 S32 = some sg' → jg_ (tm_j S0 sg0, tm_j S0 sg', .inl none) kX8_beginsAnew 114 [(0, .ref (tm_a 0))] [] (tm_j S0 S32)) : ∀ (n : Nat) (v16 : Int32) (S17 : tm_S), LX8_beginsAnew_48 k114 n v16 S17 = some sg' → jg_ (tm_j S0 sg0, tm_j S0 sg', .inl none) kX8_beginsAnew 48 [(0, .ref (tm_a 0)), (1, .int v16)] [] (tm_j S0 S17) := by
  intro n
  induction n with
  | zero =>
    intro v16 S17 hf
    exact so_no hf
  | succ n ih =>
    intro v16 S17 hf
    rw [LX8_beginsAnew_48] at hf
    refine jr_iload_n dX8_beginsAnew_48 rfl rfl ?_
    refine jr_bipush dX8_beginsAnew_49 bp_8 ?_
    refine jr_icmp_ge (tgt := 114) dX8_beginsAnew_51 rfl (fun c18 => ?_) (fun c18 => ?_)
    · have hf := so_t c18 hf
      refine jr_sub [0] rfl ?_
      exact h114 S17 hf
    · have hf := so_f c18 hf
      refine jr_aload_n dX8_beginsAnew_54 rfl rfl jv_rr ?_
      refine tr_getR (c := 6) hT (List.mem_of_getElem? (i := 5) rfl) fl_X8_29_23 dX8_beginsAnew_55 ?_
      refine jr_iload_n dX8_beginsAnew_58 rfl rfl ?_
      refine jr_aload_n dX8_beginsAnew_59 rfl rfl jv_rr ?_
      refine tr_getR (c := 5) hT (List.mem_of_getElem? (i := 4) rfl) fl_X8_26_23 dX8_beginsAnew_60 ?_
      refine jr_iload_n dX8_beginsAnew_63 rfl rfl ?_
      obtain ⟨g19, hf⟩ := so_gdE hf
      refine tr_iaload hT (show tm_k 5 = 50 from rfl) rfl (so_inE g19) dX8_beginsAnew_64 ?_
      obtain ⟨g20, hf⟩ := so_gdE hf
      refine tr_iastore hT (show tm_k 6 = 50 from rfl) rfl (so_inE g20) dX8_beginsAnew_65 ?_
      refine tm_let_e hf (fun S21 hf => ?_)
      refine jr_aload_n dX8_beginsAnew_66 rfl rfl jv_rr ?_
      refine tr_getR (c := 8) hT (List.mem_of_getElem? (i := 7) rfl) fl_X8_35_23 dX8_beginsAnew_67 ?_
      refine jr_iload_n dX8_beginsAnew_70 rfl rfl ?_
      refine jr_aload_n dX8_beginsAnew_71 rfl rfl jv_rr ?_
      refine tr_getR (c := 7) hT (List.mem_of_getElem? (i := 6) rfl) fl_X8_32_23 dX8_beginsAnew_72 ?_
      refine jr_iload_n dX8_beginsAnew_75 rfl rfl ?_
      obtain ⟨g22, hf⟩ := so_gdE hf
      refine tr_iaload hT (show tm_k 7 = 50 from rfl) rfl (so_inE g22) dX8_beginsAnew_76 ?_
      obtain ⟨g23, hf⟩ := so_gdE hf
      refine tr_iastore hT (show tm_k 8 = 50 from rfl) rfl (so_inE g23) dX8_beginsAnew_77 ?_
      refine tm_let_e hf (fun S24 hf => ?_)
      refine jr_iload_n dX8_beginsAnew_78 rfl rfl ?_
      refine jr_aload_n dX8_beginsAnew_79 rfl rfl jv_rr ?_
      refine tr_getR (c := 4) hT (List.mem_of_getElem? (i := 3) rfl) fl_X8_23_23 dX8_beginsAnew_80 ?_
      refine jr_iconst dX8_beginsAnew_83 ic_0 ?_
      obtain ⟨g25, hf⟩ := so_gdE hf
      refine tr_iaload hT (show tm_k 4 = 50 from rfl) rfl (so_inE g25) dX8_beginsAnew_84 ?_
      refine so_jE hf (fun J => ∀ (S26 : tm_S), J S26 = some sg' → jg_ (tm_j S0 sg0, tm_j S0 sg', .inl none) kX8_beginsAnew 108 [(0, .ref (tm_a 0)), (1, .int v16)] [] (tm_j S0 S26)) (fun S26 hf => ?_) (fun J27 hJ27 hf => ?_)
      · refine jr_iinc (v := v16 + (1 : Int32)) (lv' := [(0, .ref (tm_a 0)), (1, .int (v16 + (1 : Int32)))]) dX8_beginsAnew_108 rfl rfl (so_le rfl) rfl ?_
        refine jr_goto (tgt := 48) dX8_beginsAnew_111 rfl ?_
        exact ih (v16 + (1 : Int32)) S26 hf
      · refine jr_icmp_ge (tgt := 108) dX8_beginsAnew_85 rfl (fun c28 => ?_) (fun c28 => ?_)
        · have hf := so_t c28 hf
          exact hJ27 S24 hf
        · have hf := so_f c28 hf
          refine jr_aload_n dX8_beginsAnew_88 rfl rfl jv_rr ?_
          refine tr_getR (c := 468) hT (List.mem_of_getElem? (i := 19) rfl) fl_X8_73_23 dX8_beginsAnew_89 ?_
          refine jr_iconst dX8_beginsAnew_92 ic_0 ?_
          refine jr_bipush dX8_beginsAnew_93 bp_10 ?_
          refine jr_iload_n dX8_beginsAnew_95 rfl rfl ?_
          refine jr_imul dX8_beginsAnew_96 ?_
          refine jr_iadd dX8_beginsAnew_97 ?_
          refine jr_aload_n dX8_beginsAnew_98 rfl rfl jv_rr ?_
          refine tr_getR (c := 6) hT (List.mem_of_getElem? (i := 5) rfl) fl_X8_29_23 dX8_beginsAnew_99 ?_
          refine jr_iload_n dX8_beginsAnew_102 rfl rfl ?_
          obtain ⟨g29, hf⟩ := so_gdE hf
          refine tr_iaload hT (show tm_k 6 = 50 from rfl) rfl (so_inE g29) dX8_beginsAnew_103 ?_
          refine jr_iadd dX8_beginsAnew_104 ?_
          refine jr_bipush dX8_beginsAnew_105 bp_50 ?_
          obtain ⟨g30, hf⟩ := so_gdE hf
          refine tr_iastore hT (show tm_k 468 = 50 from rfl) rfl (so_inE g30) dX8_beginsAnew_107 ?_
          refine tm_let_e hf (fun S31 hf => ?_)
          exact hJ27 S31 hf
def LX8_beginsAnew_150  (k172 : tm_S → Option tm_S) : Nat → Int32 → tm_S → Option tm_S
  | 0, _, _ => none
  | n + 1, v42, S43 =>
    if (6 : Int32) ≤ v42 then
    (k172 S43)
    else
    (so_gd (so_in ((80 : Int32) + v42) 100) fun _ =>
    tm_let (tm_up S43 468 ((80 : Int32) + v42).toNatClampNeg (-1 : Int32)) fun S46 =>
    LX8_beginsAnew_150 k172 n (v42 + (1 : Int32)) S46)
set_option maxHeartbeats 4000000 in
set_option maxRecDepth 100000 in
theorem wX8_beginsAnew_150 {sg' : tm_S} {S0 : so_St} {sg0 : tm_S}    (hT : tm_Sh S0)   (k172 : tm_S → Option tm_S) (h172 : ∀ (S47 : tm_S), k172 S47 = some sg' → jg_ (tm_j S0 sg0, tm_j S0 sg', .inl none) kX8_beginsAnew 172 [(0, .ref (tm_a 0))] [] (tm_j S0 S47)) : ∀ (n : Nat) (v42 : Int32) (S43 : tm_S), LX8_beginsAnew_150 k172 n v42 S43 = some sg' → jg_ (tm_j S0 sg0, tm_j S0 sg', .inl none) kX8_beginsAnew 150 [(0, .ref (tm_a 0)), (1, .int v42)] [] (tm_j S0 S43) := by
  intro n
  induction n with
  | zero =>
    intro v42 S43 hf
    exact so_no hf
  | succ n ih =>
    intro v42 S43 hf
    rw [LX8_beginsAnew_150] at hf
    refine jr_iload_n dX8_beginsAnew_150 rfl rfl ?_
    refine jr_bipush dX8_beginsAnew_151 bp_6 ?_
    refine jr_icmp_ge (tgt := 172) dX8_beginsAnew_153 rfl (fun c44 => ?_) (fun c44 => ?_)
    · have hf := so_t c44 hf
      refine jr_sub [0] rfl ?_
      exact h172 S43 hf
    · have hf := so_f c44 hf
      refine jr_aload_n dX8_beginsAnew_156 rfl rfl jv_rr ?_
      refine tr_getR (c := 468) hT (List.mem_of_getElem? (i := 19) rfl) fl_X8_73_23 dX8_beginsAnew_157 ?_
      refine jr_bipush dX8_beginsAnew_160 bp_80 ?_
      refine jr_iload_n dX8_beginsAnew_162 rfl rfl ?_
      refine jr_iadd dX8_beginsAnew_163 ?_
      refine jr_iconst dX8_beginsAnew_164 ic_m1 ?_
      obtain ⟨g45, hf⟩ := so_gdE hf
      refine tr_iastore hT (show tm_k 468 = 50 from rfl) rfl (so_inE g45) dX8_beginsAnew_165 ?_
      refine tm_let_e hf (fun S46 hf => ?_)
      refine jr_iinc (v := v42 + (1 : Int32)) (lv' := [(0, .ref (tm_a 0)), (1, .int (v42 + (1 : Int32)))]) dX8_beginsAnew_166 rfl rfl (so_le rfl) rfl ?_
      refine jr_goto (tgt := 150) dX8_beginsAnew_169 rfl ?_
      exact ih (v42 + (1 : Int32)) S46 hf
def fX8_beginsAnew  (sg : tm_S) : Option tm_S :=
  LX8_beginsAnew_2 (fun (S8 : tm_S) =>
  LX8_beginsAnew_27 (fun (S15 : tm_S) =>
  LX8_beginsAnew_48 (fun (S33 : tm_S) =>
  so_gd (so_in (1 : Int32) 4) fun _ =>
  (fX8_lays 9 22 (S33 4 (1 : Int32).toNatClampNeg) S33).bind fun S37 =>
  so_gd (so_in (2 : Int32) 4) fun _ =>
  (fX8_lays 35 42 (S37 4 (2 : Int32).toNatClampNeg) S37).bind fun S41 =>
  LX8_beginsAnew_150 (fun (S48 : tm_S) =>
  so_gd (so_in (3 : Int32) 4) fun _ =>
  so_gd (so_in (98 : Int32) 100) fun _ =>
  tm_let (tm_up S48 468 (98 : Int32).toNatClampNeg (S48 4 (3 : Int32).toNatClampNeg)) fun S51 =>
  tm_let (tm_up S51 0 21 (0 : Int32)) fun S52 =>
  tm_let (tm_up S52 0 36 (0 : Int32)) fun S53 =>
  tm_let (tm_up S53 0 37 (0 : Int32)) fun S54 =>
  tm_let (tm_up S54 0 38 (0 : Int32)) fun S55 =>
  tm_let (tm_up S55 0 39 (0 : Int32)) fun S56 =>
  some S56) so_N (0 : Int32) S41) so_N (0 : Int32) S15) so_N (0 : Int32) S8) so_N (0 : Int32) sg
set_option maxHeartbeats 4000000 in
set_option maxRecDepth 100000 in
theorem wX8_beginsAnew {sg' : tm_S} {S0 : so_St}   (hT : tm_Sh S0) (sg : tm_S)  (hf : fX8_beginsAnew sg = some sg') : jx_Sp 1 yX8_beginsAnew (ws_ yX8_beginsAnew cX8_beginsAnew 2 (Option.none : Option Jvm.ClassFile.FieldType)) [.ref (tm_a 0)] (tm_j S0 sg) (.inl none) (tm_j S0 sg') := by
  refine jx_of (plainFor_of_name (by decide)) (so_le rfl) ?_
  show jg_ ((tm_j S0 sg), (tm_j S0 sg'), .inl none) kX8_beginsAnew 0 [(0, .ref (tm_a 0))] [] (tm_j S0 sg)
  unfold fX8_beginsAnew at hf
  refine jr_iconst dX8_beginsAnew_0 ic_0 ?_
  refine jr_istore_n (lv' := [(0, .ref (tm_a 0)), (1, .int (0 : Int32))]) dX8_beginsAnew_1 rfl (so_le rfl) rfl ?_
  refine wX8_beginsAnew_2 hT _ (fun S8 hf => ?_) so_N (0 : Int32) sg hf
  refine jr_iconst dX8_beginsAnew_25 ic_0 ?_
  refine jr_istore_n (lv' := [(0, .ref (tm_a 0)), (1, .int (0 : Int32))]) dX8_beginsAnew_26 rfl (so_le rfl) rfl ?_
  refine wX8_beginsAnew_27 hT _ (fun S15 hf => ?_) so_N (0 : Int32) S8 hf
  refine jr_iconst dX8_beginsAnew_46 ic_0 ?_
  refine jr_istore_n (lv' := [(0, .ref (tm_a 0)), (1, .int (0 : Int32))]) dX8_beginsAnew_47 rfl (so_le rfl) rfl ?_
  refine wX8_beginsAnew_48 hT _ (fun S33 hf => ?_) so_N (0 : Int32) S15 hf
  refine jr_aload_n dX8_beginsAnew_114 rfl rfl jv_rr ?_
  refine tr_getR (c := 9) hT (List.mem_of_getElem? (i := 8) rfl) fl_X8_40_23 dX8_beginsAnew_115 ?_
  refine jr_aload_n dX8_beginsAnew_118 rfl rfl jv_rr ?_
  refine tr_getR (c := 22) hT (List.mem_of_getElem? (i := 9) rfl) fl_X8_43_23 dX8_beginsAnew_119 ?_
  refine jr_aload_n dX8_beginsAnew_122 rfl rfl jv_rr ?_
  refine tr_getR (c := 4) hT (List.mem_of_getElem? (i := 3) rfl) fl_X8_23_23 dX8_beginsAnew_123 ?_
  refine jr_iconst dX8_beginsAnew_126 ic_1 ?_
  obtain ⟨g34, hf⟩ := so_gdE hf
  refine tr_iaload hT (show tm_k 4 = 50 from rfl) rfl (so_inE g34) dX8_beginsAnew_127 ?_
  obtain ⟨S37, h35, hf⟩ := so_b hf
  refine jr_call (st := []) lk_X8_202 (wX8_lays 9 22 (S33 4 (1 : Int32).toNatClampNeg) hT S33 (show tm_k 9 = 56 from rfl) (show tm_k 22 = 56 from rfl) h35) jk_r0 rfl rfl (so_le rfl) (so_le rfl) dX8_beginsAnew_128 ?_
  refine jr_aload_n dX8_beginsAnew_131 rfl rfl jv_rr ?_
  refine tr_getR (c := 35) hT (List.mem_of_getElem? (i := 10) rfl) fl_X8_46_23 dX8_beginsAnew_132 ?_
  refine jr_aload_n dX8_beginsAnew_135 rfl rfl jv_rr ?_
  refine tr_getR (c := 42) hT (List.mem_of_getElem? (i := 11) rfl) fl_X8_49_23 dX8_beginsAnew_136 ?_
  refine jr_aload_n dX8_beginsAnew_139 rfl rfl jv_rr ?_
  refine tr_getR (c := 4) hT (List.mem_of_getElem? (i := 3) rfl) fl_X8_23_23 dX8_beginsAnew_140 ?_
  refine jr_iconst dX8_beginsAnew_143 ic_2 ?_
  obtain ⟨g38, hf⟩ := so_gdE hf
  refine tr_iaload hT (show tm_k 4 = 50 from rfl) rfl (so_inE g38) dX8_beginsAnew_144 ?_
  obtain ⟨S41, h39, hf⟩ := so_b hf
  refine jr_call (st := []) lk_X8_202 (wX8_lays 35 42 (S37 4 (2 : Int32).toNatClampNeg) hT S37 (show tm_k 35 = 56 from rfl) (show tm_k 42 = 56 from rfl) h39) jk_r0 rfl rfl (so_le rfl) (so_le rfl) dX8_beginsAnew_145 ?_
  refine jr_iconst dX8_beginsAnew_148 ic_0 ?_
  refine jr_istore_n (lv' := [(0, .ref (tm_a 0)), (1, .int (0 : Int32))]) dX8_beginsAnew_149 rfl (so_le rfl) rfl ?_
  refine wX8_beginsAnew_150 hT _ (fun S48 hf => ?_) so_N (0 : Int32) S41 hf
  refine jr_aload_n dX8_beginsAnew_172 rfl rfl jv_rr ?_
  refine tr_getR (c := 468) hT (List.mem_of_getElem? (i := 19) rfl) fl_X8_73_23 dX8_beginsAnew_173 ?_
  refine jr_bipush dX8_beginsAnew_176 bp_98 ?_
  refine jr_aload_n dX8_beginsAnew_178 rfl rfl jv_rr ?_
  refine tr_getR (c := 4) hT (List.mem_of_getElem? (i := 3) rfl) fl_X8_23_23 dX8_beginsAnew_179 ?_
  refine jr_iconst dX8_beginsAnew_182 ic_3 ?_
  obtain ⟨g49, hf⟩ := so_gdE hf
  refine tr_iaload hT (show tm_k 4 = 50 from rfl) rfl (so_inE g49) dX8_beginsAnew_183 ?_
  obtain ⟨g50, hf⟩ := so_gdE hf
  refine tr_iastore hT (show tm_k 468 = 50 from rfl) rfl (so_inE g50) dX8_beginsAnew_184 ?_
  refine tm_let_e hf (fun S51 hf => ?_)
  refine jr_aload_n dX8_beginsAnew_185 rfl rfl jv_rr ?_
  refine jr_iconst dX8_beginsAnew_186 ic_0 ?_
  refine tr_putI fp_X8_206_23 dX8_beginsAnew_187 ?_
  refine tm_let_e hf (fun S52 hf => ?_)
  refine jr_aload_n dX8_beginsAnew_190 rfl rfl jv_rr ?_
  refine jr_iconst dX8_beginsAnew_191 ic_0 ?_
  refine tr_putI fp_X8_209_23 dX8_beginsAnew_192 ?_
  refine tm_let_e hf (fun S53 hf => ?_)
  refine jr_aload_n dX8_beginsAnew_195 rfl rfl jv_rr ?_
  refine jr_iconst dX8_beginsAnew_196 ic_0 ?_
  refine tr_putI fp_X8_212_23 dX8_beginsAnew_197 ?_
  refine tm_let_e hf (fun S54 hf => ?_)
  refine jr_aload_n dX8_beginsAnew_200 rfl rfl jv_rr ?_
  refine jr_iconst dX8_beginsAnew_201 ic_0 ?_
  refine tr_putI fp_X8_215_23 dX8_beginsAnew_202 ?_
  refine tm_let_e hf (fun S55 hf => ?_)
  refine jr_aload_n dX8_beginsAnew_205 rfl rfl jv_rr ?_
  refine jr_iconst dX8_beginsAnew_206 ic_0 ?_
  refine tr_putI fp_X8_218_23 dX8_beginsAnew_207 ?_
  refine tm_let_e hf (fun S56 hf => ?_)
  obtain rfl := so_e1 hf
  exact jr_vret rfl dX8_beginsAnew_210

/- X8_init -/
abbrev kX8_init : jx_K := (cX8_init, 1, RX8, 2, (Option.none : Option Jvm.ClassFile.FieldType), "<init>", [])
def fX8_init (a0 : Nat) (S : so_St) : Option so_St :=
  so_let (so_sI S a0 3 (-1 : Int32)) fun S1 =>
  so_let (so_new S1 50 600 600) fun S2 =>
  so_let (so_sR S2 a0 9 (some (so_at S1 50))) fun S3 =>
  so_let (so_new S3 50 2 2) fun S4 =>
  so_let (so_sR S4 a0 10 (some (so_at S3 50))) fun S5 =>
  so_let (so_new S5 50 4 4) fun S6 =>
  so_let (so_sR S6 a0 11 (some (so_at S5 50))) fun S7 =>
  so_let (so_new S7 50 4 4) fun S8 =>
  so_let (so_sR S8 a0 12 (some (so_at S7 50))) fun S9 =>
  so_let (so_new S9 50 8 8) fun S10 =>
  so_let (so_sR S10 a0 13 (some (so_at S9 50))) fun S11 =>
  so_let (so_new S11 50 8 8) fun S12 =>
  so_let (so_sR S12 a0 14 (some (so_at S11 50))) fun S13 =>
  so_let (so_new S13 50 8 8) fun S14 =>
  so_let (so_sR S14 a0 15 (some (so_at S13 50))) fun S15 =>
  so_let (so_new S15 50 8 8) fun S16 =>
  so_let (so_sR S16 a0 16 (some (so_at S15 50))) fun S17 =>
  so_let (so_grid S17 12 2) fun S18 =>
  so_let (so_sR S18 a0 17 (some (64 * S17.1 + 56))) fun S19 =>
  so_let (so_grid S19 12 2) fun S20 =>
  so_let (so_sR S20 a0 18 (some (64 * S19.1 + 56))) fun S21 =>
  so_let (so_grid S21 6 2) fun S22 =>
  so_let (so_sR S22 a0 19 (some (64 * S21.1 + 56))) fun S23 =>
  so_let (so_grid S23 6 2) fun S24 =>
  so_let (so_sR S24 a0 20 (some (64 * S23.1 + 56))) fun S25 =>
  so_let (so_grid S25 160 2) fun S26 =>
  so_let (so_sR S26 a0 23 (some (64 * S25.1 + 56))) fun S27 =>
  so_let (so_grid S27 160 2) fun S28 =>
  so_let (so_sR S28 a0 24 (some (64 * S27.1 + 56))) fun S29 =>
  so_let (so_grid S29 6 2) fun S30 =>
  so_let (so_sR S30 a0 25 (some (64 * S29.1 + 56))) fun S31 =>
  so_let (so_grid S31 6 2) fun S32 =>
  so_let (so_sR S32 a0 26 (some (64 * S31.1 + 56))) fun S33 =>
  so_let (so_new S33 50 160 160) fun S34 =>
  so_let (so_sR S34 a0 27 (some (so_at S33 50))) fun S35 =>
  so_let (so_new S35 50 8 8) fun S36 =>
  so_let (so_sR S36 a0 28 (some (so_at S35 50))) fun S37 =>
  so_let (so_grid S37 80 4) fun S38 =>
  so_let (so_sR S38 a0 29 (some (64 * S37.1 + 56))) fun S39 =>
  so_let (so_new S39 50 100 100) fun S40 =>
  so_let (so_sR S40 a0 31 (some (so_at S39 50))) fun S41 =>
  so_let (so_new S41 50 100 100) fun S42 =>
  so_let (so_sR S42 a0 32 (some (so_at S41 50))) fun S43 =>
  so_let (so_new S43 50 6 6) fun S44 =>
  so_let (so_sR S44 a0 33 (some (so_at S43 50))) fun S45 =>
  so_let (so_grid S45 16 100) fun S46 =>
  so_let (so_sR S46 a0 34 (some (64 * S45.1 + 56))) fun S47 =>
  so_let (so_grid S47 3 1701) fun S48 =>
  so_let (so_sR S48 a0 35 (some (64 * S47.1 + 56))) fun S49 =>
  so_let (so_new S49 50 6 6) fun S50 =>
  so_let (so_sR S50 a0 43 (some (so_at S49 50))) fun S51 =>
  so_let (so_new S51 50 61 61) fun S52 =>
  so_let (so_sR S52 a0 45 (some (so_at S51 50))) fun S53 =>
  so_let (so_grid S53 61 100) fun S54 =>
  so_let (so_sR S54 a0 46 (some (64 * S53.1 + 56))) fun S55 =>
  so_let (so_new S55 50 8 8) fun S56 =>
  so_let (so_sR S56 a0 47 (some (so_at S55 50))) fun S57 =>
  so_gd (decide (a0 = tm_a 0)) fun _ =>
  so_gd (tm_shb S57) fun _ =>
  (fX8_tellsNothing (tm_of S57)).bind fun S60 =>
  so_let (tm_j S57 S60) fun S62 =>
  so_gd (decide (a0 = tm_a 0)) fun _ =>
  so_gd (tm_shb S62) fun _ =>
  (fX8_beginsAnew (tm_of S62)).bind fun S65 =>
  so_let (tm_j S62 S65) fun S67 =>
  some S67
set_option maxHeartbeats 4000000 in
set_option maxRecDepth 100000 in
theorem wX8_init {S' : so_St}  (a0 : Nat)  (S : so_St) (k_a0 : a0 % 64 ∈ [23]) (hf : fX8_init a0 S = some S') : jx_Sp 2 yX8_init (ws_ yX8_init cX8_init 1 (Option.none : Option Jvm.ClassFile.FieldType)) [.ref a0] S (.inl none) S' := by
  refine jx_of (plainFor_of_name (by decide)) (so_le rfl) ?_
  show jg_ (S, S', .inl none) kX8_init 0 [(0, .ref a0)] [] S
  unfold fX8_init at hf
  refine jr_aload_n dX8_init_0 rfl rfl jv_rr ?_
  refine jr_objInit (so_n63 k_a0 rfl) q1940 q155 q156 (so_le rfl) (so_le rfl) dX8_init_1 ?_
  refine jr_aload_n dX8_init_4 rfl rfl jv_rr ?_
  refine jr_iconst dX8_init_5 ic_m1 ?_
  refine jr_putI fp_X8_9_23 k_a0 (so_n26 rfl) (fun h => by cases h) rfl rfl dX8_init_6 ?_
  refine so_let_e hf (fun S1 hf => ?_)
  refine jr_aload_n dX8_init_9 rfl rfl jv_rr ?_
  refine jr_sipush dX8_init_10 sp_600 ?_
  refine jr_newi q251 (by decide) (by decide) dX8_init_13 ?_
  refine so_let_e hf (fun S2 hf => ?_)
  refine jr_putR (r := (some (so_at S1 50))) rfl fp_X8_13_23 k_a0 (so_n26 rfl) (fun _ => rfl) rfl dX8_init_15 ?_
  refine so_let_e hf (fun S3 hf => ?_)
  refine jr_aload_n dX8_init_18 rfl rfl jv_rr ?_
  refine jr_iconst dX8_init_19 ic_2 ?_
  refine jr_newi q251 (by decide) (by decide) dX8_init_20 ?_
  refine so_let_e hf (fun S4 hf => ?_)
  refine jr_putR (r := (some (so_at S3 50))) rfl fp_X8_17_23 k_a0 (so_n26 rfl) (fun _ => rfl) rfl dX8_init_22 ?_
  refine so_let_e hf (fun S5 hf => ?_)
  refine jr_aload_n dX8_init_25 rfl rfl jv_rr ?_
  refine jr_iconst dX8_init_26 ic_4 ?_
  refine jr_newi q251 (by decide) (by decide) dX8_init_27 ?_
  refine so_let_e hf (fun S6 hf => ?_)
  refine jr_putR (r := (some (so_at S5 50))) rfl fp_X8_20_23 k_a0 (so_n26 rfl) (fun _ => rfl) rfl dX8_init_29 ?_
  refine so_let_e hf (fun S7 hf => ?_)
  refine jr_aload_n dX8_init_32 rfl rfl jv_rr ?_
  refine jr_iconst dX8_init_33 ic_4 ?_
  refine jr_newi q251 (by decide) (by decide) dX8_init_34 ?_
  refine so_let_e hf (fun S8 hf => ?_)
  refine jr_putR (r := (some (so_at S7 50))) rfl fp_X8_23_23 k_a0 (so_n26 rfl) (fun _ => rfl) rfl dX8_init_36 ?_
  refine so_let_e hf (fun S9 hf => ?_)
  refine jr_aload_n dX8_init_39 rfl rfl jv_rr ?_
  refine jr_bipush dX8_init_40 bp_8 ?_
  refine jr_newi q251 (by decide) (by decide) dX8_init_42 ?_
  refine so_let_e hf (fun S10 hf => ?_)
  refine jr_putR (r := (some (so_at S9 50))) rfl fp_X8_26_23 k_a0 (so_n26 rfl) (fun _ => rfl) rfl dX8_init_44 ?_
  refine so_let_e hf (fun S11 hf => ?_)
  refine jr_aload_n dX8_init_47 rfl rfl jv_rr ?_
  refine jr_bipush dX8_init_48 bp_8 ?_
  refine jr_newi q251 (by decide) (by decide) dX8_init_50 ?_
  refine so_let_e hf (fun S12 hf => ?_)
  refine jr_putR (r := (some (so_at S11 50))) rfl fp_X8_29_23 k_a0 (so_n26 rfl) (fun _ => rfl) rfl dX8_init_52 ?_
  refine so_let_e hf (fun S13 hf => ?_)
  refine jr_aload_n dX8_init_55 rfl rfl jv_rr ?_
  refine jr_bipush dX8_init_56 bp_8 ?_
  refine jr_newi q251 (by decide) (by decide) dX8_init_58 ?_
  refine so_let_e hf (fun S14 hf => ?_)
  refine jr_putR (r := (some (so_at S13 50))) rfl fp_X8_32_23 k_a0 (so_n26 rfl) (fun _ => rfl) rfl dX8_init_60 ?_
  refine so_let_e hf (fun S15 hf => ?_)
  refine jr_aload_n dX8_init_63 rfl rfl jv_rr ?_
  refine jr_bipush dX8_init_64 bp_8 ?_
  refine jr_newi q251 (by decide) (by decide) dX8_init_66 ?_
  refine so_let_e hf (fun S16 hf => ?_)
  refine jr_putR (r := (some (so_at S15 50))) rfl fp_X8_35_23 k_a0 (so_n26 rfl) (fun _ => rfl) rfl dX8_init_68 ?_
  refine so_let_e hf (fun S17 hf => ?_)
  refine jr_aload_n dX8_init_71 rfl rfl jv_rr ?_
  refine jr_bipush dX8_init_72 bp_12 ?_
  refine jr_iconst dX8_init_74 ic_2 ?_
  refine jr_grid (n := 12) (m := 2) q1941 q1942 q251 (by decide) (by decide) (by decide) (by decide) (so_le rfl) (so_le rfl) dX8_init_75 ?_
  refine so_let_e hf (fun S18 hf => ?_)
  refine jr_putR (r := (some (64 * S17.1 + 56))) rfl fp_X8_40_23 k_a0 (so_n26 rfl) (fun _ => rfl) rfl dX8_init_79 ?_
  refine so_let_e hf (fun S19 hf => ?_)
  refine jr_aload_n dX8_init_82 rfl rfl jv_rr ?_
  refine jr_bipush dX8_init_83 bp_12 ?_
  refine jr_iconst dX8_init_85 ic_2 ?_
  refine jr_grid (n := 12) (m := 2) q1941 q1942 q251 (by decide) (by decide) (by decide) (by decide) (so_le rfl) (so_le rfl) dX8_init_86 ?_
  refine so_let_e hf (fun S20 hf => ?_)
  refine jr_putR (r := (some (64 * S19.1 + 56))) rfl fp_X8_43_23 k_a0 (so_n26 rfl) (fun _ => rfl) rfl dX8_init_90 ?_
  refine so_let_e hf (fun S21 hf => ?_)
  refine jr_aload_n dX8_init_93 rfl rfl jv_rr ?_
  refine jr_bipush dX8_init_94 bp_6 ?_
  refine jr_iconst dX8_init_96 ic_2 ?_
  refine jr_grid (n := 6) (m := 2) q1941 q1942 q251 (by decide) (by decide) (by decide) (by decide) (so_le rfl) (so_le rfl) dX8_init_97 ?_
  refine so_let_e hf (fun S22 hf => ?_)
  refine jr_putR (r := (some (64 * S21.1 + 56))) rfl fp_X8_46_23 k_a0 (so_n26 rfl) (fun _ => rfl) rfl dX8_init_101 ?_
  refine so_let_e hf (fun S23 hf => ?_)
  refine jr_aload_n dX8_init_104 rfl rfl jv_rr ?_
  refine jr_bipush dX8_init_105 bp_6 ?_
  refine jr_iconst dX8_init_107 ic_2 ?_
  refine jr_grid (n := 6) (m := 2) q1941 q1942 q251 (by decide) (by decide) (by decide) (by decide) (so_le rfl) (so_le rfl) dX8_init_108 ?_
  refine so_let_e hf (fun S24 hf => ?_)
  refine jr_putR (r := (some (64 * S23.1 + 56))) rfl fp_X8_49_23 k_a0 (so_n26 rfl) (fun _ => rfl) rfl dX8_init_112 ?_
  refine so_let_e hf (fun S25 hf => ?_)
  refine jr_aload_n dX8_init_115 rfl rfl jv_rr ?_
  refine jr_sipush dX8_init_116 sp_160 ?_
  refine jr_iconst dX8_init_119 ic_2 ?_
  refine jr_grid (n := 160) (m := 2) q1941 q1942 q251 (by decide) (by decide) (by decide) (by decide) (so_le rfl) (so_le rfl) dX8_init_120 ?_
  refine so_let_e hf (fun S26 hf => ?_)
  refine jr_putR (r := (some (64 * S25.1 + 56))) rfl fp_X8_52_23 k_a0 (so_n26 rfl) (fun _ => rfl) rfl dX8_init_124 ?_
  refine so_let_e hf (fun S27 hf => ?_)
  refine jr_aload_n dX8_init_127 rfl rfl jv_rr ?_
  refine jr_sipush dX8_init_128 sp_160 ?_
  refine jr_iconst dX8_init_131 ic_2 ?_
  refine jr_grid (n := 160) (m := 2) q1941 q1942 q251 (by decide) (by decide) (by decide) (by decide) (so_le rfl) (so_le rfl) dX8_init_132 ?_
  refine so_let_e hf (fun S28 hf => ?_)
  refine jr_putR (r := (some (64 * S27.1 + 56))) rfl fp_X8_55_23 k_a0 (so_n26 rfl) (fun _ => rfl) rfl dX8_init_136 ?_
  refine so_let_e hf (fun S29 hf => ?_)
  refine jr_aload_n dX8_init_139 rfl rfl jv_rr ?_
  refine jr_bipush dX8_init_140 bp_6 ?_
  refine jr_iconst dX8_init_142 ic_2 ?_
  refine jr_grid (n := 6) (m := 2) q1941 q1942 q251 (by decide) (by decide) (by decide) (by decide) (so_le rfl) (so_le rfl) dX8_init_143 ?_
  refine so_let_e hf (fun S30 hf => ?_)
  refine jr_putR (r := (some (64 * S29.1 + 56))) rfl fp_X8_58_23 k_a0 (so_n26 rfl) (fun _ => rfl) rfl dX8_init_147 ?_
  refine so_let_e hf (fun S31 hf => ?_)
  refine jr_aload_n dX8_init_150 rfl rfl jv_rr ?_
  refine jr_bipush dX8_init_151 bp_6 ?_
  refine jr_iconst dX8_init_153 ic_2 ?_
  refine jr_grid (n := 6) (m := 2) q1941 q1942 q251 (by decide) (by decide) (by decide) (by decide) (so_le rfl) (so_le rfl) dX8_init_154 ?_
  refine so_let_e hf (fun S32 hf => ?_)
  refine jr_putR (r := (some (64 * S31.1 + 56))) rfl fp_X8_61_23 k_a0 (so_n26 rfl) (fun _ => rfl) rfl dX8_init_158 ?_
  refine so_let_e hf (fun S33 hf => ?_)
  refine jr_aload_n dX8_init_161 rfl rfl jv_rr ?_
  refine jr_sipush dX8_init_162 sp_160 ?_
  refine jr_newi q251 (by decide) (by decide) dX8_init_165 ?_
  refine so_let_e hf (fun S34 hf => ?_)
  refine jr_putR (r := (some (so_at S33 50))) rfl fp_X8_64_23 k_a0 (so_n26 rfl) (fun _ => rfl) rfl dX8_init_167 ?_
  refine so_let_e hf (fun S35 hf => ?_)
  refine jr_aload_n dX8_init_170 rfl rfl jv_rr ?_
  refine jr_bipush dX8_init_171 bp_8 ?_
  refine jr_newi q251 (by decide) (by decide) dX8_init_173 ?_
  refine so_let_e hf (fun S36 hf => ?_)
  refine jr_putR (r := (some (so_at S35 50))) rfl fp_X8_67_23 k_a0 (so_n26 rfl) (fun _ => rfl) rfl dX8_init_175 ?_
  refine so_let_e hf (fun S37 hf => ?_)
  refine jr_aload_n dX8_init_178 rfl rfl jv_rr ?_
  refine jr_bipush dX8_init_179 bp_80 ?_
  refine jr_iconst dX8_init_181 ic_4 ?_
  refine jr_grid (n := 80) (m := 4) q1941 q1942 q251 (by decide) (by decide) (by decide) (by decide) (so_le rfl) (so_le rfl) dX8_init_182 ?_
  refine so_let_e hf (fun S38 hf => ?_)
  refine jr_putR (r := (some (64 * S37.1 + 56))) rfl fp_X8_70_23 k_a0 (so_n26 rfl) (fun _ => rfl) rfl dX8_init_186 ?_
  refine so_let_e hf (fun S39 hf => ?_)
  refine jr_aload_n dX8_init_189 rfl rfl jv_rr ?_
  refine jr_bipush dX8_init_190 bp_100 ?_
  refine jr_newi q251 (by decide) (by decide) dX8_init_192 ?_
  refine so_let_e hf (fun S40 hf => ?_)
  refine jr_putR (r := (some (so_at S39 50))) rfl fp_X8_73_23 k_a0 (so_n26 rfl) (fun _ => rfl) rfl dX8_init_194 ?_
  refine so_let_e hf (fun S41 hf => ?_)
  refine jr_aload_n dX8_init_197 rfl rfl jv_rr ?_
  refine jr_bipush dX8_init_198 bp_100 ?_
  refine jr_newi q251 (by decide) (by decide) dX8_init_200 ?_
  refine so_let_e hf (fun S42 hf => ?_)
  refine jr_putR (r := (some (so_at S41 50))) rfl fp_X8_76_23 k_a0 (so_n26 rfl) (fun _ => rfl) rfl dX8_init_202 ?_
  refine so_let_e hf (fun S43 hf => ?_)
  refine jr_aload_n dX8_init_205 rfl rfl jv_rr ?_
  refine jr_bipush dX8_init_206 bp_6 ?_
  refine jr_newi q251 (by decide) (by decide) dX8_init_208 ?_
  refine so_let_e hf (fun S44 hf => ?_)
  refine jr_putR (r := (some (so_at S43 50))) rfl fp_X8_79_23 k_a0 (so_n26 rfl) (fun _ => rfl) rfl dX8_init_210 ?_
  refine so_let_e hf (fun S45 hf => ?_)
  refine jr_aload_n dX8_init_213 rfl rfl jv_rr ?_
  refine jr_bipush dX8_init_214 bp_16 ?_
  refine jr_bipush dX8_init_216 bp_100 ?_
  refine jr_grid (n := 16) (m := 100) q1941 q1942 q251 (by decide) (by decide) (by decide) (by decide) (so_le rfl) (so_le rfl) dX8_init_218 ?_
  refine so_let_e hf (fun S46 hf => ?_)
  refine jr_putR (r := (some (64 * S45.1 + 56))) rfl fp_X8_82_23 k_a0 (so_n26 rfl) (fun _ => rfl) rfl dX8_init_222 ?_
  refine so_let_e hf (fun S47 hf => ?_)
  refine jr_aload_n dX8_init_225 rfl rfl jv_rr ?_
  refine jr_iconst dX8_init_226 ic_3 ?_
  refine jr_sipush dX8_init_227 sp_1701 ?_
  refine jr_grid (n := 3) (m := 1701) q1941 q1942 q251 (by decide) (by decide) (by decide) (by decide) (so_le rfl) (so_le rfl) dX8_init_230 ?_
  refine so_let_e hf (fun S48 hf => ?_)
  refine jr_putR (r := (some (64 * S47.1 + 56))) rfl fp_X8_85_23 k_a0 (so_n26 rfl) (fun _ => rfl) rfl dX8_init_234 ?_
  refine so_let_e hf (fun S49 hf => ?_)
  refine jr_aload_n dX8_init_237 rfl rfl jv_rr ?_
  refine jr_bipush dX8_init_238 bp_6 ?_
  refine jr_newi q251 (by decide) (by decide) dX8_init_240 ?_
  refine so_let_e hf (fun S50 hf => ?_)
  refine jr_putR (r := (some (so_at S49 50))) rfl fp_X8_88_23 k_a0 (so_n26 rfl) (fun _ => rfl) rfl dX8_init_242 ?_
  refine so_let_e hf (fun S51 hf => ?_)
  refine jr_aload_n dX8_init_245 rfl rfl jv_rr ?_
  refine jr_bipush dX8_init_246 bp_61 ?_
  refine jr_newi q251 (by decide) (by decide) dX8_init_248 ?_
  refine so_let_e hf (fun S52 hf => ?_)
  refine jr_putR (r := (some (so_at S51 50))) rfl fp_X8_91_23 k_a0 (so_n26 rfl) (fun _ => rfl) rfl dX8_init_250 ?_
  refine so_let_e hf (fun S53 hf => ?_)
  refine jr_aload_n dX8_init_253 rfl rfl jv_rr ?_
  refine jr_bipush dX8_init_254 bp_61 ?_
  refine jr_bipush dX8_init_256 bp_100 ?_
  refine jr_grid (n := 61) (m := 100) q1941 q1942 q251 (by decide) (by decide) (by decide) (by decide) (so_le rfl) (so_le rfl) dX8_init_258 ?_
  refine so_let_e hf (fun S54 hf => ?_)
  refine jr_putR (r := (some (64 * S53.1 + 56))) rfl fp_X8_94_23 k_a0 (so_n26 rfl) (fun _ => rfl) rfl dX8_init_262 ?_
  refine so_let_e hf (fun S55 hf => ?_)
  refine jr_aload_n dX8_init_265 rfl rfl jv_rr ?_
  refine jr_bipush dX8_init_266 bp_8 ?_
  refine jr_newi q251 (by decide) (by decide) dX8_init_268 ?_
  refine so_let_e hf (fun S56 hf => ?_)
  refine jr_putR (r := (some (so_at S55 50))) rfl fp_X8_97_23 k_a0 (so_n26 rfl) (fun _ => rfl) rfl dX8_init_270 ?_
  refine so_let_e hf (fun S57 hf => ?_)
  refine jr_aload_n dX8_init_273 rfl rfl jv_rr ?_
  obtain ⟨g58, hf⟩ := so_gdE hf
  obtain ⟨g59, hf⟩ := so_gdE hf
  obtain ⟨S60, h61, hf⟩ := so_b hf
  have wh61 := wX8_tellsNothing (tm_shE g59) (tm_of S57) h61
  rw [tm_jof, ← (of_decide_eq_true g58)] at wh61
  refine jr_callM (st := []) lk_X8_100_23 wh61 k_a0 rfl rfl rfl (so_le rfl) (so_le rfl) dX8_init_274 ?_
  refine so_let_e hf (fun S62 hf => ?_)
  refine jr_aload_n dX8_init_277 rfl rfl jv_rr ?_
  obtain ⟨g63, hf⟩ := so_gdE hf
  obtain ⟨g64, hf⟩ := so_gdE hf
  obtain ⟨S65, h66, hf⟩ := so_b hf
  have wh66 := wX8_beginsAnew (tm_shE g64) (tm_of S62) h66
  rw [tm_jof, ← (of_decide_eq_true g63)] at wh66
  refine jr_callM (st := []) lk_X8_103_23 wh66 k_a0 rfl rfl rfl (so_le rfl) (so_le rfl) dX8_init_278 ?_
  refine so_let_e hf (fun S67 hf => ?_)
  obtain rfl := so_e1 hf
  exact jr_vret rfl dX8_init_281

/- X8_thrown -/
abbrev kX8_thrown : jx_K := (cX8_thrown, 1, RX8, 0, (Option.some Jvm.ClassFile.FieldType.int), "thrown", [])
def fX8_thrown  (sg : tm_S) : Option Int32 :=
  some (sg 0 0)
set_option maxHeartbeats 4000000 in
set_option maxRecDepth 100000 in
theorem wX8_thrown {res : Int32} {S0 : so_St}   (hT : tm_Sh S0) (sg : tm_S)  (hf : fX8_thrown sg = some res) : jx_Sp 0 yX8_thrown (ws_ yX8_thrown cX8_thrown 1 (Option.some Jvm.ClassFile.FieldType.int)) [.ref (tm_a 0)] (tm_j S0 sg) (.inl (some (.int res))) (tm_j S0 sg) := by
  refine jx_of (plainFor_of_name (by decide)) (so_le rfl) ?_
  show jg_ ((tm_j S0 sg), (tm_j S0 sg), .inl (some (.int res))) kX8_thrown 0 [(0, .ref (tm_a 0))] [] (tm_j S0 sg)
  unfold fX8_thrown at hf
  refine jr_aload_n dX8_thrown_0 rfl rfl jv_rr ?_
  refine tr_getI fl_X8_106_23 dX8_thrown_1 ?_
  obtain rfl := so_e1 hf
  exact jr_iret rfl rfl dX8_thrown_4

/- X8_feed -/
abbrev kX8_feed : jx_K := (cX8_feed, 8, RX8, 0, (Option.some Jvm.ClassFile.FieldType.int), "feed", [])
def LX8_feed_23 (f1 : Int32) (f2 : Int32) (f3 : Int32) (f4 : Int32) (f5 : Int32) (k120 : tm_S → Option (Int32 × tm_S)) : Nat → Int32 → tm_S → Option (Int32 × tm_S)
  | 0, _, _ => none
  | n + 1, v3, S4 =>
    if (20 : Int32) ≤ v3 then
    (k120 S4)
    else
    (so_j (κ := Int32 → Option (Int32 × tm_S)) (ρ := Option (Int32 × tm_S)) (fun (v6 : Int32) =>
    so_gd (so_in (S4 0 1) 600) fun _ =>
    tm_let (tm_up S4 1 (S4 0 1).toNatClampNeg ((v6 >>> (((24 : Int32) - ((8 : Int32) * (v3 - v3 / (4 : Int32) * (4 : Int32)))) &&& 31)) &&& (255 : Int32))) fun S9 =>
    tm_let (tm_up S9 0 1 ((S9 0 1) + (1 : Int32))) fun S10 =>
    LX8_feed_23 f1 f2 f3 f4 f5 k120 n (v3 + (1 : Int32)) S10)
    (fun J7 =>
    if (4 : Int32) ≤ v3 then
    (if (8 : Int32) ≤ v3 then
    (if (12 : Int32) ≤ v3 then
    (if (16 : Int32) ≤ v3 then
    (J7 f5)
    else
    (J7 f4))
    else
    (J7 f3))
    else
    (J7 f2))
    else
    (J7 f1)))
set_option maxHeartbeats 4000000 in
set_option maxRecDepth 100000 in
theorem wX8_feed_23 {res : Int32} {sg' : tm_S} {S0 : so_St} {sg0 : tm_S}   (f1 : Int32) (f2 : Int32) (f3 : Int32) (f4 : Int32) (f5 : Int32) (hT : tm_Sh S0)   (k120 : tm_S → Option (Int32 × tm_S)) (h120 : ∀ (S15 : tm_S), k120 S15 = some (res, sg') → jg_ (tm_j S0 sg0, tm_j S0 sg', .inl (some (.int res))) kX8_feed 120 [(0, .ref (tm_a 0))] [] (tm_j S0 S15)) : ∀ (n : Nat) (v3 : Int32) (S4 : tm_S), LX8_feed_23 f1 f2 f3 f4 f5 k120 n v3 S4 = some (res, sg') → jg_ (tm_j S0 sg0, tm_j S0 sg', .inl (some (.int res))) kX8_feed 23 [(0, .ref (tm_a 0)), (1, .int f1), (2, .int f2), (3, .int f3), (4, .int f4), (5, .int f5), (6, .int v3)] [] (tm_j S0 S4) := by
  intro n
  induction n with
  | zero =>
    intro v3 S4 hf
    exact so_no hf
  | succ n ih =>
    intro v3 S4 hf
    rw [LX8_feed_23] at hf
    refine jr_iload dX8_feed_23 rfl ?_
    refine jr_bipush dX8_feed_25 bp_20 ?_
    refine jr_icmp_ge (tgt := 120) dX8_feed_27 rfl (fun c5 => ?_) (fun c5 => ?_)
    · have hf := so_t c5 hf
      refine jr_sub [0] rfl ?_
      exact h120 S4 hf
    · have hf := so_f c5 hf
      refine jr_iload dX8_feed_30 rfl ?_
      refine jr_iconst dX8_feed_32 ic_4 ?_
      refine so_jE hf (fun J => ∀ (v6 : Int32), J v6 = some (res, sg') → jg_ (tm_j S0 sg0, tm_j S0 sg', .inl (some (.int res))) kX8_feed 76 [(0, .ref (tm_a 0)), (1, .int f1), (2, .int f2), (3, .int f3), (4, .int f4), (5, .int f5), (6, .int v3)] [.int v6] (tm_j S0 S4)) (fun v6 hf => ?_) (fun J7 hJ7 hf => ?_)
      · refine jr_istore (lv' := [(0, .ref (tm_a 0)), (1, .int f1), (2, .int f2), (3, .int f3), (4, .int f4), (5, .int f5), (6, .int v3), (7, .int v6)]) dX8_feed_76 (so_le rfl) rfl ?_
        refine jr_aload_n dX8_feed_78 rfl rfl jv_rr ?_
        refine tr_getR (c := 1) hT (List.mem_of_getElem? (i := 0) rfl) fl_X8_13_23 dX8_feed_79 ?_
        refine jr_aload_n dX8_feed_82 rfl rfl jv_rr ?_
        refine tr_getI fl_X8_109_23 dX8_feed_83 ?_
        refine jr_iload dX8_feed_86 rfl ?_
        refine jr_bipush dX8_feed_88 bp_24 ?_
        refine jr_bipush dX8_feed_90 bp_8 ?_
        refine jr_iload dX8_feed_92 rfl ?_
        refine jr_iconst dX8_feed_94 ic_4 ?_
        refine jr_irem dX8_feed_95 (by decide) ?_
        refine jr_imul dX8_feed_96 ?_
        refine jr_isub dX8_feed_97 ?_
        refine jr_ishr dX8_feed_98 ?_
        refine jr_sipush dX8_feed_99 sp_255 ?_
        refine jr_iand dX8_feed_102 ?_
        obtain ⟨g8, hf⟩ := so_gdE hf
        refine tr_iastore hT (show tm_k 1 = 50 from rfl) rfl (so_inE g8) dX8_feed_103 ?_
        refine tm_let_e hf (fun S9 hf => ?_)
        refine jr_aload_n dX8_feed_104 rfl rfl jv_rr ?_
        refine jr_dup dX8_feed_105 rfl ?_
        refine tr_getI fl_X8_109_23 dX8_feed_106 ?_
        refine jr_iconst dX8_feed_109 ic_1 ?_
        refine jr_iadd dX8_feed_110 ?_
        refine tr_putI fp_X8_109_23 dX8_feed_111 ?_
        refine tm_let_e hf (fun S10 hf => ?_)
        refine jr_iinc (v := v3 + (1 : Int32)) (lv' := [(0, .ref (tm_a 0)), (1, .int f1), (2, .int f2), (3, .int f3), (4, .int f4), (5, .int f5), (6, .int (v3 + (1 : Int32))), (7, .int v6)]) dX8_feed_114 rfl rfl (so_le rfl) rfl ?_
        refine jr_goto (tgt := 23) dX8_feed_117 rfl ?_
        refine jr_sub [0, 1, 2, 3, 4, 5, 6] rfl ?_
        exact ih (v3 + (1 : Int32)) S10 hf
      · refine jr_icmp_ge (tgt := 40) dX8_feed_33 rfl (fun c11 => ?_) (fun c11 => ?_)
        · have hf := so_t c11 hf
          refine jr_iload dX8_feed_40 rfl ?_
          refine jr_bipush dX8_feed_42 bp_8 ?_
          refine jr_icmp_ge (tgt := 51) dX8_feed_44 rfl (fun c12 => ?_) (fun c12 => ?_)
          · have hf := so_t c12 hf
            refine jr_iload dX8_feed_51 rfl ?_
            refine jr_bipush dX8_feed_53 bp_12 ?_
            refine jr_icmp_ge (tgt := 62) dX8_feed_55 rfl (fun c13 => ?_) (fun c13 => ?_)
            · have hf := so_t c13 hf
              refine jr_iload dX8_feed_62 rfl ?_
              refine jr_bipush dX8_feed_64 bp_16 ?_
              refine jr_icmp_ge (tgt := 74) dX8_feed_66 rfl (fun c14 => ?_) (fun c14 => ?_)
              · have hf := so_t c14 hf
                refine jr_iload dX8_feed_74 rfl ?_
                exact hJ7 f5 hf
              · have hf := so_f c14 hf
                refine jr_iload dX8_feed_69 rfl ?_
                refine jr_goto (tgt := 76) dX8_feed_71 rfl ?_
                exact hJ7 f4 hf
            · have hf := so_f c13 hf
              refine jr_iload_n dX8_feed_58 rfl rfl ?_
              refine jr_goto (tgt := 76) dX8_feed_59 rfl ?_
              exact hJ7 f3 hf
          · have hf := so_f c12 hf
            refine jr_iload_n dX8_feed_47 rfl rfl ?_
            refine jr_goto (tgt := 76) dX8_feed_48 rfl ?_
            exact hJ7 f2 hf
        · have hf := so_f c11 hf
          refine jr_iload_n dX8_feed_36 rfl rfl ?_
          refine jr_goto (tgt := 76) dX8_feed_37 rfl ?_
          exact hJ7 f1 hf
def fX8_feed (a1 : Int32) (a2 : Int32) (a3 : Int32) (a4 : Int32) (a5 : Int32) (sg : tm_S) : Option (Int32 × tm_S) :=
  tm_let (tm_up sg 0 0 (0 : Int32)) fun S1 =>
  if ((S1 0 1) + (20 : Int32)) ≤ (600 : Int32) then
  (LX8_feed_23 a1 a2 a3 a4 a5 (fun (S16 : tm_S) =>
  some ((S16 0 1), S16)) so_N (0 : Int32) S1)
  else
  (some ((-1 : Int32), S1))
set_option maxHeartbeats 4000000 in
set_option maxRecDepth 100000 in
theorem wX8_feed {res : Int32} {sg' : tm_S} {S0 : so_St}  (a1 : Int32) (a2 : Int32) (a3 : Int32) (a4 : Int32) (a5 : Int32) (hT : tm_Sh S0) (sg : tm_S)  (hf : fX8_feed a1 a2 a3 a4 a5 sg = some (res, sg')) : jx_Sp 0 yX8_feed (ws_ yX8_feed cX8_feed 8 (Option.some Jvm.ClassFile.FieldType.int)) [.ref (tm_a 0), .int a1, .int a2, .int a3, .int a4, .int a5] (tm_j S0 sg) (.inl (some (.int res))) (tm_j S0 sg') := by
  refine jx_of (plainFor_of_name (by decide)) (so_le rfl) ?_
  show jg_ ((tm_j S0 sg), (tm_j S0 sg'), .inl (some (.int res))) kX8_feed 0 [(0, .ref (tm_a 0)), (1, .int a1), (2, .int a2), (3, .int a3), (4, .int a4), (5, .int a5)] [] (tm_j S0 sg)
  unfold fX8_feed at hf
  refine jr_aload_n dX8_feed_0 rfl rfl jv_rr ?_
  refine jr_iconst dX8_feed_1 ic_0 ?_
  refine tr_putI fp_X8_106_23 dX8_feed_2 ?_
  refine tm_let_e hf (fun S1 hf => ?_)
  refine jr_aload_n dX8_feed_5 rfl rfl jv_rr ?_
  refine tr_getI fl_X8_109_23 dX8_feed_6 ?_
  refine jr_bipush dX8_feed_9 bp_20 ?_
  refine jr_iadd dX8_feed_11 ?_
  refine jr_sipush dX8_feed_12 sp_600 ?_
  refine jr_icmp_le (tgt := 20) dX8_feed_15 rfl (fun c2 => ?_) (fun c2 => ?_)
  · have hf := so_t c2 hf
    refine jr_iconst dX8_feed_20 ic_0 ?_
    refine jr_istore (lv' := [(0, .ref (tm_a 0)), (1, .int a1), (2, .int a2), (3, .int a3), (4, .int a4), (5, .int a5), (6, .int (0 : Int32))]) dX8_feed_21 (so_le rfl) rfl ?_
    refine wX8_feed_23 a1 a2 a3 a4 a5 hT _ (fun S16 hf => ?_) so_N (0 : Int32) S1 hf
    refine jr_aload_n dX8_feed_120 rfl rfl jv_rr ?_
    refine tr_getI fl_X8_109_23 dX8_feed_121 ?_
    obtain ⟨rfl, rfl⟩ := so_e2 hf
    exact jr_iret rfl rfl dX8_feed_124
  · have hf := so_f c2 hf
    refine jr_iconst dX8_feed_18 ic_m1 ?_
    obtain ⟨rfl, rfl⟩ := so_e2 hf
    exact jr_iret rfl rfl dX8_feed_19
