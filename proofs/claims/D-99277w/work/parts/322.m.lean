/-! printed: functions and walks -/
set_option maxRecDepth 100000
set_option linter.unusedVariables false
/- X8_undo -/
abbrev kX8_undo : jx_K := (cX8_undo, 1, RX8, 1, (Option.some Jvm.ClassFile.FieldType.int), "undo", [])
def fX8_undo  (sg : tm_S) : Option (Int32 × tm_S) :=
  tm_let (tm_up sg 0 0 (0 : Int32)) fun S1 =>
  if (S1 0 37) = (0 : Int32) then
  (some ((-1 : Int32), S1))
  else
  (tm_let (tm_up S1 0 37 ((S1 0 37) - (1 : Int32))) fun S3 =>
  so_gd (so_in (S3 0 37) 16) fun _ =>
  (fX8_copies (472 + (S3 0 37).toNatClampNeg) 468 S3).bind fun S7 =>
  tm_let (tm_up S7 0 38 (0 : Int32)) fun S8 =>
  some ((S8 0 37), S8))
set_option maxHeartbeats 4000000 in
set_option maxRecDepth 100000 in
theorem wX8_undo {res : Int32} {sg' : tm_S} {S0 : so_St}   (hT : tm_Sh S0) (sg : tm_S)  (hf : fX8_undo sg = some (res, sg')) : jx_Sp 1 yX8_undo (ws_ yX8_undo cX8_undo 1 (Option.some Jvm.ClassFile.FieldType.int)) [.ref (tm_a 0)] (tm_j S0 sg) (.inl (some (.int res))) (tm_j S0 sg') := by
  refine jx_of (plainFor_of_name (by decide)) (so_le rfl) ?_
  show jg_ ((tm_j S0 sg), (tm_j S0 sg'), .inl (some (.int res))) kX8_undo 0 [(0, .ref (tm_a 0))] [] (tm_j S0 sg)
  unfold fX8_undo at hf
  refine jr_aload_n dX8_undo_0 rfl rfl jv_rr ?_
  refine jr_iconst dX8_undo_1 ic_0 ?_
  refine tr_putI fp_X8_106_23 dX8_undo_2 ?_
  refine tm_let_e hf (fun S1 hf => ?_)
  refine jr_aload_n dX8_undo_5 rfl rfl jv_rr ?_
  refine tr_getI fl_X8_212_23 dX8_undo_6 ?_
  refine jr_if_ne (tgt := 14) dX8_undo_9 rfl (fun c2 => ?_) (fun c2 => ?_)
  · have hf := so_f c2 hf
    refine jr_aload_n dX8_undo_14 rfl rfl jv_rr ?_
    refine jr_dup dX8_undo_15 rfl ?_
    refine tr_getI fl_X8_212_23 dX8_undo_16 ?_
    refine jr_iconst dX8_undo_19 ic_1 ?_
    refine jr_isub dX8_undo_20 ?_
    refine tr_putI fp_X8_212_23 dX8_undo_21 ?_
    refine tm_let_e hf (fun S3 hf => ?_)
    refine jr_aload_n dX8_undo_24 rfl rfl jv_rr ?_
    refine tr_getR (c := 471) hT (List.mem_of_getElem? (i := 22) rfl) fl_X8_82_23 dX8_undo_25 ?_
    refine jr_aload_n dX8_undo_28 rfl rfl jv_rr ?_
    refine tr_getI fl_X8_212_23 dX8_undo_29 ?_
    obtain ⟨g4, hf⟩ := so_gdE hf
    refine tr_aaload (g' := 472) hT (show tm_k 471 = 56 from rfl) rfl rfl (so_inE g4) dX8_undo_32 ?_
    refine jr_aload_n dX8_undo_33 rfl rfl jv_rr ?_
    refine tr_getR (c := 468) hT (List.mem_of_getElem? (i := 19) rfl) fl_X8_73_23 dX8_undo_34 ?_
    obtain ⟨S7, h5, hf⟩ := so_b hf
    refine jr_call (st := []) lk_X8_319 (wX8_copies (472 + (S3 0 37).toNatClampNeg) 468 hT S3 (tm_rk_471 (so_inE g4)) (show tm_k 468 = 50 from rfl) h5) jk_r0 rfl rfl (so_le rfl) (so_le rfl) dX8_undo_37 ?_
    refine jr_aload_n dX8_undo_40 rfl rfl jv_rr ?_
    refine jr_iconst dX8_undo_41 ic_0 ?_
    refine tr_putI fp_X8_215_23 dX8_undo_42 ?_
    refine tm_let_e hf (fun S8 hf => ?_)
    refine jr_aload_n dX8_undo_45 rfl rfl jv_rr ?_
    refine tr_getI fl_X8_212_23 dX8_undo_46 ?_
    obtain ⟨rfl, rfl⟩ := so_e2 hf
    exact jr_iret rfl rfl dX8_undo_49
  · have hf := so_t c2 hf
    refine jr_iconst dX8_undo_12 ic_m1 ?_
    obtain ⟨rfl, rfl⟩ := so_e2 hf
    exact jr_iret rfl rfl dX8_undo_13

/- X8_fightsOf -/
abbrev kX8_fightsOf : jx_K := (cX8_fightsOf, 5, RX8, 3, (Option.some Jvm.ClassFile.FieldType.int), "fightsOf", [])
def LX8_fightsOf_5 (f1 : Nat) (f2 : Int32) (sg : tm_S) : Nat → Int32 → Int32 → Option Int32
  | 0, _, _ => none
  | n + 1, v1, v2 =>
    so_gd (so_in (2 : Int32) 4) fun _ =>
    if (sg 4 (2 : Int32).toNatClampNeg) ≤ v2 then
    (some v1)
    else
    ((fX8_isFight f1 f2 v2 sg).bind fun r6 =>
    so_j (κ := Int32 → Option Int32) (ρ := Option Int32) (fun (v7 : Int32) =>
    LX8_fightsOf_5 f1 f2 sg n (v1 ||| v7) (v2 + (1 : Int32)))
    (fun J8 =>
    if r6 = (0 : Int32) then
    (J8 (0 : Int32))
    else
    (J8 ((1 : Int32) <<< (v2 &&& 31)))))
set_option maxHeartbeats 4000000 in
set_option maxRecDepth 100000 in
theorem wX8_fightsOf_5 {res : Int32} {S0 : so_St}   (f1 : Nat) (f2 : Int32) (hT : tm_Sh S0) (sg : tm_S) (k_f1 : tm_k f1 = 50) : ∀ (n : Nat) (v1 : Int32) (v2 : Int32), LX8_fightsOf_5 f1 f2 sg n v1 v2 = some res → jg_ (tm_j S0 sg, tm_j S0 sg, .inl (some (.int res))) kX8_fightsOf 5 [(0, .ref (tm_a 0)), (1, .ref (tm_a f1)), (2, .int f2), (3, .int v1), (4, .int v2)] [] (tm_j S0 sg) := by
  intro n
  induction n with
  | zero =>
    intro v1 v2 hf
    exact so_no hf
  | succ n ih =>
    intro v1 v2 hf
    rw [LX8_fightsOf_5] at hf
    refine jr_iload dX8_fightsOf_5 rfl ?_
    refine jr_aload_n dX8_fightsOf_7 rfl rfl jv_rr ?_
    refine tr_getR (c := 4) hT (List.mem_of_getElem? (i := 3) rfl) fl_X8_23_23 dX8_fightsOf_8 ?_
    refine jr_iconst dX8_fightsOf_11 ic_2 ?_
    obtain ⟨g3, hf⟩ := so_gdE hf
    refine tr_iaload hT (show tm_k 4 = 50 from rfl) rfl (so_inE g3) dX8_fightsOf_12 ?_
    refine jr_icmp_ge (tgt := 44) dX8_fightsOf_13 rfl (fun c4 => ?_) (fun c4 => ?_)
    · have hf := so_t c4 hf
      refine jr_iload_n dX8_fightsOf_44 rfl rfl ?_
      obtain rfl := so_e1 hf
      exact jr_iret rfl rfl dX8_fightsOf_45
    · have hf := so_f c4 hf
      refine jr_iload_n dX8_fightsOf_16 rfl rfl ?_
      refine jr_aload_n dX8_fightsOf_17 rfl rfl jv_rr ?_
      refine jr_aload_n dX8_fightsOf_18 rfl rfl jv_rr ?_
      refine jr_iload_n dX8_fightsOf_19 rfl rfl ?_
      refine jr_iload dX8_fightsOf_20 rfl ?_
      obtain ⟨r6, h5, hf⟩ := so_b hf
      refine jr_callM (st := [.int v1]) lk_X8_290_23 (wX8_isFight f1 f2 v2 hT sg k_f1 h5) tm_k23 rfl rfl rfl (so_le rfl) (so_le rfl) dX8_fightsOf_22 ?_
      refine so_jE hf (fun J => ∀ (v7 : Int32), J v7 = some res → jg_ (tm_j S0 sg, tm_j S0 sg, .inl (some (.int res))) kX8_fightsOf 36 [(0, .ref (tm_a 0)), (1, .ref (tm_a f1)), (2, .int f2), (4, .int v2)] [.int v7, .int v1] (tm_j S0 sg)) (fun v7 hf => ?_) (fun J8 hJ8 hf => ?_)
      · refine jr_ior dX8_fightsOf_36 ?_
        refine jr_istore_n (lv' := [(0, .ref (tm_a 0)), (1, .ref (tm_a f1)), (2, .int f2), (3, .int (v1 ||| v7)), (4, .int v2)]) dX8_fightsOf_37 rfl (so_le rfl) rfl ?_
        refine jr_iinc (v := v2 + (1 : Int32)) (lv' := [(0, .ref (tm_a 0)), (1, .ref (tm_a f1)), (2, .int f2), (3, .int (v1 ||| v7)), (4, .int (v2 + (1 : Int32)))]) dX8_fightsOf_38 rfl rfl (so_le rfl) rfl ?_
        refine jr_goto (tgt := 5) dX8_fightsOf_41 rfl ?_
        exact ih (v1 ||| v7) (v2 + (1 : Int32)) hf
      · refine jr_if_eq (tgt := 35) dX8_fightsOf_25 rfl (fun c9 => ?_) (fun c9 => ?_)
        · have hf := so_t c9 hf
          refine jr_iconst dX8_fightsOf_35 ic_0 ?_
          refine jr_sub [0, 1, 2, 4] rfl ?_
          exact hJ8 (0 : Int32) hf
        · have hf := so_f c9 hf
          refine jr_iconst dX8_fightsOf_28 ic_1 ?_
          refine jr_iload dX8_fightsOf_29 rfl ?_
          refine jr_ishl dX8_fightsOf_31 ?_
          refine jr_goto (tgt := 36) dX8_fightsOf_32 rfl ?_
          refine jr_sub [0, 1, 2, 4] rfl ?_
          exact hJ8 ((1 : Int32) <<< (v2 &&& 31)) hf
def fX8_fightsOf (a1 : Nat) (a2 : Int32) (sg : tm_S) : Option Int32 :=
  LX8_fightsOf_5 a1 a2 sg so_N (0 : Int32) (0 : Int32)
set_option maxHeartbeats 4000000 in
set_option maxRecDepth 100000 in
theorem wX8_fightsOf {res : Int32} {S0 : so_St}  (a1 : Nat) (a2 : Int32) (hT : tm_Sh S0) (sg : tm_S) (k_a1 : tm_k a1 = 50) (hf : fX8_fightsOf a1 a2 sg = some res) : jx_Sp 3 yX8_fightsOf (ws_ yX8_fightsOf cX8_fightsOf 5 (Option.some Jvm.ClassFile.FieldType.int)) [.ref (tm_a 0), .ref (tm_a a1), .int a2] (tm_j S0 sg) (.inl (some (.int res))) (tm_j S0 sg) := by
  refine jx_of (plainFor_of_name (by decide)) (so_le rfl) ?_
  show jg_ ((tm_j S0 sg), (tm_j S0 sg), .inl (some (.int res))) kX8_fightsOf 0 [(0, .ref (tm_a 0)), (1, .ref (tm_a a1)), (2, .int a2)] [] (tm_j S0 sg)
  unfold fX8_fightsOf at hf
  refine jr_iconst dX8_fightsOf_0 ic_0 ?_
  refine jr_istore_n (lv' := [(0, .ref (tm_a 0)), (1, .ref (tm_a a1)), (2, .int a2), (3, .int (0 : Int32))]) dX8_fightsOf_1 rfl (so_le rfl) rfl ?_
  refine jr_iconst dX8_fightsOf_2 ic_0 ?_
  refine jr_istore (lv' := [(0, .ref (tm_a 0)), (1, .ref (tm_a a1)), (2, .int a2), (3, .int (0 : Int32)), (4, .int (0 : Int32))]) dX8_fightsOf_3 (so_le rfl) rfl ?_
  refine wX8_fightsOf_5 a1 a2 hT sg k_a1 so_N (0 : Int32) (0 : Int32) hf

/- X8_amount -/
abbrev kX8_amount : jx_K := (cX8_amount, 4, RX8, 0, (Option.some Jvm.ClassFile.FieldType.int), "amount", [])
def fX8_amount (a1 : Nat) (a2 : Int32) (a3 : Int32) (sg : tm_S) : Option Int32 :=
  so_gd (so_in (((0 : Int32) + ((10 : Int32) * a2)) + a3) (tm_len a1)) fun _ =>
  some (sg a1 (((0 : Int32) + ((10 : Int32) * a2)) + a3).toNatClampNeg)
set_option maxHeartbeats 4000000 in
set_option maxRecDepth 100000 in
theorem wX8_amount {res : Int32} {S0 : so_St}  (a1 : Nat) (a2 : Int32) (a3 : Int32) (hT : tm_Sh S0) (sg : tm_S) (k_a1 : tm_k a1 = 50) (hf : fX8_amount a1 a2 a3 sg = some res) : jx_Sp 0 yX8_amount (ws_ yX8_amount cX8_amount 4 (Option.some Jvm.ClassFile.FieldType.int)) [.ref (tm_a 0), .ref (tm_a a1), .int a2, .int a3] (tm_j S0 sg) (.inl (some (.int res))) (tm_j S0 sg) := by
  refine jx_of (plainFor_of_name (by decide)) (so_le rfl) ?_
  show jg_ ((tm_j S0 sg), (tm_j S0 sg), .inl (some (.int res))) kX8_amount 0 [(0, .ref (tm_a 0)), (1, .ref (tm_a a1)), (2, .int a2), (3, .int a3)] [] (tm_j S0 sg)
  unfold fX8_amount at hf
  refine jr_aload_n dX8_amount_0 rfl rfl jv_rr ?_
  refine jr_iconst dX8_amount_1 ic_0 ?_
  refine jr_bipush dX8_amount_2 bp_10 ?_
  refine jr_iload_n dX8_amount_4 rfl rfl ?_
  refine jr_imul dX8_amount_5 ?_
  refine jr_iadd dX8_amount_6 ?_
  refine jr_iload_n dX8_amount_7 rfl rfl ?_
  refine jr_iadd dX8_amount_8 ?_
  obtain ⟨g1, hf⟩ := so_gdE hf
  refine tr_iaload hT k_a1 rfl (so_inE g1) dX8_amount_9 ?_
  obtain rfl := so_e1 hf
  exact jr_iret rfl rfl dX8_amount_10

/- X8_thingOf -/
abbrev kX8_thingOf : jx_K := (cX8_thingOf, 5, RX8, 1, (Option.some Jvm.ClassFile.FieldType.int), "thingOf", [])
def LX8_thingOf_5 (f1 : Nat) (f2 : Int32) (sg : tm_S) : Nat → Int32 → Int32 → Option Int32
  | 0, _, _ => none
  | n + 1, v1, v2 =>
    if (10 : Int32) ≤ v2 then
    (some v1)
    else
    ((fX8_amount f1 f2 v2 sg).bind fun r5 =>
    (fX8_amount f1 f2 v1 sg).bind fun r7 =>
    so_j (κ := Int32 → Option Int32) (ρ := Option Int32) (fun (v8 : Int32) =>
    LX8_thingOf_5 f1 f2 sg n v8 (v2 + (1 : Int32)))
    (fun J9 =>
    if r5 ≤ r7 then
    (J9 v1)
    else
    (J9 v2)))
set_option maxHeartbeats 4000000 in
set_option maxRecDepth 100000 in
theorem wX8_thingOf_5 {res : Int32} {S0 : so_St}   (f1 : Nat) (f2 : Int32) (hT : tm_Sh S0) (sg : tm_S) (k_f1 : tm_k f1 = 50) : ∀ (n : Nat) (v1 : Int32) (v2 : Int32), LX8_thingOf_5 f1 f2 sg n v1 v2 = some res → jg_ (tm_j S0 sg, tm_j S0 sg, .inl (some (.int res))) kX8_thingOf 5 [(0, .ref (tm_a 0)), (1, .ref (tm_a f1)), (2, .int f2), (3, .int v1), (4, .int v2)] [] (tm_j S0 sg) := by
  intro n
  induction n with
  | zero =>
    intro v1 v2 hf
    exact so_no hf
  | succ n ih =>
    intro v1 v2 hf
    rw [LX8_thingOf_5] at hf
    refine jr_iload dX8_thingOf_5 rfl ?_
    refine jr_bipush dX8_thingOf_7 bp_10 ?_
    refine jr_icmp_ge (tgt := 43) dX8_thingOf_9 rfl (fun c3 => ?_) (fun c3 => ?_)
    · have hf := so_t c3 hf
      refine jr_iload_n dX8_thingOf_43 rfl rfl ?_
      obtain rfl := so_e1 hf
      exact jr_iret rfl rfl dX8_thingOf_44
    · have hf := so_f c3 hf
      refine jr_aload_n dX8_thingOf_12 rfl rfl jv_rr ?_
      refine jr_aload_n dX8_thingOf_13 rfl rfl jv_rr ?_
      refine jr_iload_n dX8_thingOf_14 rfl rfl ?_
      refine jr_iload dX8_thingOf_15 rfl ?_
      obtain ⟨r5, h4, hf⟩ := so_b hf
      refine jr_callM (st := []) lk_X8_323_23 (wX8_amount f1 f2 v2 hT sg k_f1 h4) tm_k23 rfl rfl rfl (so_le rfl) (so_le rfl) dX8_thingOf_17 ?_
      refine jr_aload_n dX8_thingOf_20 rfl rfl jv_rr ?_
      refine jr_aload_n dX8_thingOf_21 rfl rfl jv_rr ?_
      refine jr_iload_n dX8_thingOf_22 rfl rfl ?_
      refine jr_iload_n dX8_thingOf_23 rfl rfl ?_
      obtain ⟨r7, h6, hf⟩ := so_b hf
      refine jr_callM (st := [.int r5]) lk_X8_323_23 (wX8_amount f1 f2 v1 hT sg k_f1 h6) tm_k23 rfl rfl rfl (so_le rfl) (so_le rfl) dX8_thingOf_24 ?_
      refine so_jE hf (fun J => ∀ (v8 : Int32), J v8 = some res → jg_ (tm_j S0 sg, tm_j S0 sg, .inl (some (.int res))) kX8_thingOf 36 [(0, .ref (tm_a 0)), (1, .ref (tm_a f1)), (2, .int f2), (4, .int v2)] [.int v8] (tm_j S0 sg)) (fun v8 hf => ?_) (fun J9 hJ9 hf => ?_)
      · refine jr_istore_n (lv' := [(0, .ref (tm_a 0)), (1, .ref (tm_a f1)), (2, .int f2), (3, .int v8), (4, .int v2)]) dX8_thingOf_36 rfl (so_le rfl) rfl ?_
        refine jr_iinc (v := v2 + (1 : Int32)) (lv' := [(0, .ref (tm_a 0)), (1, .ref (tm_a f1)), (2, .int f2), (3, .int v8), (4, .int (v2 + (1 : Int32)))]) dX8_thingOf_37 rfl rfl (so_le rfl) rfl ?_
        refine jr_goto (tgt := 5) dX8_thingOf_40 rfl ?_
        exact ih v8 (v2 + (1 : Int32)) hf
      · refine jr_icmp_le (tgt := 35) dX8_thingOf_27 rfl (fun c10 => ?_) (fun c10 => ?_)
        · have hf := so_t c10 hf
          refine jr_iload_n dX8_thingOf_35 rfl rfl ?_
          refine jr_sub [0, 1, 2, 4] rfl ?_
          exact hJ9 v1 hf
        · have hf := so_f c10 hf
          refine jr_iload dX8_thingOf_30 rfl ?_
          refine jr_goto (tgt := 36) dX8_thingOf_32 rfl ?_
          refine jr_sub [0, 1, 2, 4] rfl ?_
          exact hJ9 v2 hf
def fX8_thingOf (a1 : Nat) (a2 : Int32) (sg : tm_S) : Option Int32 :=
  LX8_thingOf_5 a1 a2 sg so_N (0 : Int32) (1 : Int32)
set_option maxHeartbeats 4000000 in
set_option maxRecDepth 100000 in
theorem wX8_thingOf {res : Int32} {S0 : so_St}  (a1 : Nat) (a2 : Int32) (hT : tm_Sh S0) (sg : tm_S) (k_a1 : tm_k a1 = 50) (hf : fX8_thingOf a1 a2 sg = some res) : jx_Sp 1 yX8_thingOf (ws_ yX8_thingOf cX8_thingOf 5 (Option.some Jvm.ClassFile.FieldType.int)) [.ref (tm_a 0), .ref (tm_a a1), .int a2] (tm_j S0 sg) (.inl (some (.int res))) (tm_j S0 sg) := by
  refine jx_of (plainFor_of_name (by decide)) (so_le rfl) ?_
  show jg_ ((tm_j S0 sg), (tm_j S0 sg), .inl (some (.int res))) kX8_thingOf 0 [(0, .ref (tm_a 0)), (1, .ref (tm_a a1)), (2, .int a2)] [] (tm_j S0 sg)
  unfold fX8_thingOf at hf
  refine jr_iconst dX8_thingOf_0 ic_0 ?_
  refine jr_istore_n (lv' := [(0, .ref (tm_a 0)), (1, .ref (tm_a a1)), (2, .int a2), (3, .int (0 : Int32))]) dX8_thingOf_1 rfl (so_le rfl) rfl ?_
  refine jr_iconst dX8_thingOf_2 ic_1 ?_
  refine jr_istore (lv' := [(0, .ref (tm_a 0)), (1, .ref (tm_a a1)), (2, .int a2), (3, .int (0 : Int32)), (4, .int (1 : Int32))]) dX8_thingOf_3 (so_le rfl) rfl ?_
  refine wX8_thingOf_5 a1 a2 hT sg k_a1 so_N (0 : Int32) (1 : Int32) hf

/- X8_wishedIn -/
abbrev kX8_wishedIn : jx_K := (cX8_wishedIn, 4, RX8, 2, (Option.some Jvm.ClassFile.FieldType.int), "wishedIn", [])
def LX8_wishedIn_4 (f1 : Nat) (sg : tm_S) : Nat → Int32 → Int32 → Option Int32
  | 0, _, _ => none
  | n + 1, v1, v2 =>
    so_gd (so_in (0 : Int32) 4) fun _ =>
    if (sg 4 (0 : Int32).toNatClampNeg) ≤ v2 then
    (some v1)
    else
    (so_gd (so_in v2 8) fun _ =>
    (fX8_thingOf f1 v2 sg).bind fun r7 =>
    so_j (κ := Int32 → Option Int32) (ρ := Option Int32) (fun (v8 : Int32) =>
    LX8_wishedIn_4 f1 sg n (v1 ||| v8) (v2 + (1 : Int32)))
    (fun J9 =>
    if (sg 8 v2.toNatClampNeg) = r7 then
    (J9 ((1 : Int32) <<< (v2 &&& 31)))
    else
    (J9 (0 : Int32))))
set_option maxHeartbeats 4000000 in
set_option maxRecDepth 100000 in
theorem wX8_wishedIn_4 {res : Int32} {S0 : so_St}   (f1 : Nat) (hT : tm_Sh S0) (sg : tm_S) (k_f1 : tm_k f1 = 50) : ∀ (n : Nat) (v1 : Int32) (v2 : Int32), LX8_wishedIn_4 f1 sg n v1 v2 = some res → jg_ (tm_j S0 sg, tm_j S0 sg, .inl (some (.int res))) kX8_wishedIn 4 [(0, .ref (tm_a 0)), (1, .ref (tm_a f1)), (2, .int v1), (3, .int v2)] [] (tm_j S0 sg) := by
  intro n
  induction n with
  | zero =>
    intro v1 v2 hf
    exact so_no hf
  | succ n ih =>
    intro v1 v2 hf
    rw [LX8_wishedIn_4] at hf
    refine jr_iload_n dX8_wishedIn_4 rfl rfl ?_
    refine jr_aload_n dX8_wishedIn_5 rfl rfl jv_rr ?_
    refine tr_getR (c := 4) hT (List.mem_of_getElem? (i := 3) rfl) fl_X8_23_23 dX8_wishedIn_6 ?_
    refine jr_iconst dX8_wishedIn_9 ic_0 ?_
    obtain ⟨g3, hf⟩ := so_gdE hf
    refine tr_iaload hT (show tm_k 4 = 50 from rfl) rfl (so_inE g3) dX8_wishedIn_10 ?_
    refine jr_icmp_ge (tgt := 45) dX8_wishedIn_11 rfl (fun c4 => ?_) (fun c4 => ?_)
    · have hf := so_t c4 hf
      refine jr_iload_n dX8_wishedIn_45 rfl rfl ?_
      obtain rfl := so_e1 hf
      exact jr_iret rfl rfl dX8_wishedIn_46
    · have hf := so_f c4 hf
      refine jr_iload_n dX8_wishedIn_14 rfl rfl ?_
      refine jr_aload_n dX8_wishedIn_15 rfl rfl jv_rr ?_
      refine tr_getR (c := 8) hT (List.mem_of_getElem? (i := 7) rfl) fl_X8_35_23 dX8_wishedIn_16 ?_
      refine jr_iload_n dX8_wishedIn_19 rfl rfl ?_
      obtain ⟨g5, hf⟩ := so_gdE hf
      refine tr_iaload hT (show tm_k 8 = 50 from rfl) rfl (so_inE g5) dX8_wishedIn_20 ?_
      refine jr_aload_n dX8_wishedIn_21 rfl rfl jv_rr ?_
      refine jr_aload_n dX8_wishedIn_22 rfl rfl jv_rr ?_
      refine jr_iload_n dX8_wishedIn_23 rfl rfl ?_
      obtain ⟨r7, h6, hf⟩ := so_b hf
      refine jr_callM (st := [.int (sg 8 v2.toNatClampNeg), .int v1]) lk_X8_326_23 (wX8_thingOf f1 v2 hT sg k_f1 h6) tm_k23 rfl rfl rfl (so_le rfl) (so_le rfl) dX8_wishedIn_24 ?_
      refine so_jE hf (fun J => ∀ (v8 : Int32), J v8 = some res → jg_ (tm_j S0 sg, tm_j S0 sg, .inl (some (.int res))) kX8_wishedIn 37 [(0, .ref (tm_a 0)), (1, .ref (tm_a f1)), (3, .int v2)] [.int v8, .int v1] (tm_j S0 sg)) (fun v8 hf => ?_) (fun J9 hJ9 hf => ?_)
      · refine jr_ior dX8_wishedIn_37 ?_
        refine jr_istore_n (lv' := [(0, .ref (tm_a 0)), (1, .ref (tm_a f1)), (2, .int (v1 ||| v8)), (3, .int v2)]) dX8_wishedIn_38 rfl (so_le rfl) rfl ?_
        refine jr_iinc (v := v2 + (1 : Int32)) (lv' := [(0, .ref (tm_a 0)), (1, .ref (tm_a f1)), (2, .int (v1 ||| v8)), (3, .int (v2 + (1 : Int32)))]) dX8_wishedIn_39 rfl rfl (so_le rfl) rfl ?_
        refine jr_goto (tgt := 4) dX8_wishedIn_42 rfl ?_
        exact ih (v1 ||| v8) (v2 + (1 : Int32)) hf
      · refine jr_icmp_ne (tgt := 36) dX8_wishedIn_27 rfl (fun c10 => ?_) (fun c10 => ?_)
        · have hf := so_f c10 hf
          refine jr_iconst dX8_wishedIn_36 ic_0 ?_
          refine jr_sub [0, 1, 3] rfl ?_
          exact hJ9 (0 : Int32) hf
        · have hf := so_t c10 hf
          refine jr_iconst dX8_wishedIn_30 ic_1 ?_
          refine jr_iload_n dX8_wishedIn_31 rfl rfl ?_
          refine jr_ishl dX8_wishedIn_32 ?_
          refine jr_goto (tgt := 37) dX8_wishedIn_33 rfl ?_
          refine jr_sub [0, 1, 3] rfl ?_
          exact hJ9 ((1 : Int32) <<< (v2 &&& 31)) hf
def fX8_wishedIn (a1 : Nat) (sg : tm_S) : Option Int32 :=
  LX8_wishedIn_4 a1 sg so_N (0 : Int32) (0 : Int32)
set_option maxHeartbeats 4000000 in
set_option maxRecDepth 100000 in
theorem wX8_wishedIn {res : Int32} {S0 : so_St}  (a1 : Nat) (hT : tm_Sh S0) (sg : tm_S) (k_a1 : tm_k a1 = 50) (hf : fX8_wishedIn a1 sg = some res) : jx_Sp 2 yX8_wishedIn (ws_ yX8_wishedIn cX8_wishedIn 4 (Option.some Jvm.ClassFile.FieldType.int)) [.ref (tm_a 0), .ref (tm_a a1)] (tm_j S0 sg) (.inl (some (.int res))) (tm_j S0 sg) := by
  refine jx_of (plainFor_of_name (by decide)) (so_le rfl) ?_
  show jg_ ((tm_j S0 sg), (tm_j S0 sg), .inl (some (.int res))) kX8_wishedIn 0 [(0, .ref (tm_a 0)), (1, .ref (tm_a a1))] [] (tm_j S0 sg)
  unfold fX8_wishedIn at hf
  refine jr_iconst dX8_wishedIn_0 ic_0 ?_
  refine jr_istore_n (lv' := [(0, .ref (tm_a 0)), (1, .ref (tm_a a1)), (2, .int (0 : Int32))]) dX8_wishedIn_1 rfl (so_le rfl) rfl ?_
  refine jr_iconst dX8_wishedIn_2 ic_0 ?_
  refine jr_istore_n (lv' := [(0, .ref (tm_a 0)), (1, .ref (tm_a a1)), (2, .int (0 : Int32)), (3, .int (0 : Int32))]) dX8_wishedIn_3 rfl (so_le rfl) rfl ?_
  refine wX8_wishedIn_4 a1 hT sg k_a1 so_N (0 : Int32) (0 : Int32) hf

/- X8_allIn -/
abbrev kX8_allIn : jx_K := (cX8_allIn, 4, RX8, 0, (Option.some Jvm.ClassFile.FieldType.int), "allIn", [])
def LX8_allIn_4 (f1 : Nat) (sg : tm_S) : Nat → Int32 → Int32 → Option Int32
  | 0, _, _ => none
  | n + 1, v1, v2 =>
    so_gd (so_in (0 : Int32) 4) fun _ =>
    if ((10 : Int32) * (sg 4 (0 : Int32).toNatClampNeg)) ≤ v2 then
    (some v1)
    else
    (so_gd (so_in ((0 : Int32) + v2) (tm_len f1)) fun _ =>
    LX8_allIn_4 f1 sg n (v1 + (sg f1 ((0 : Int32) + v2).toNatClampNeg)) (v2 + (1 : Int32)))
set_option maxHeartbeats 4000000 in
set_option maxRecDepth 100000 in
theorem wX8_allIn_4 {res : Int32} {S0 : so_St}   (f1 : Nat) (hT : tm_Sh S0) (sg : tm_S) (k_f1 : tm_k f1 = 50) : ∀ (n : Nat) (v1 : Int32) (v2 : Int32), LX8_allIn_4 f1 sg n v1 v2 = some res → jg_ (tm_j S0 sg, tm_j S0 sg, .inl (some (.int res))) kX8_allIn 4 [(0, .ref (tm_a 0)), (1, .ref (tm_a f1)), (2, .int v1), (3, .int v2)] [] (tm_j S0 sg) := by
  intro n
  induction n with
  | zero =>
    intro v1 v2 hf
    exact so_no hf
  | succ n ih =>
    intro v1 v2 hf
    rw [LX8_allIn_4] at hf
    refine jr_iload_n dX8_allIn_4 rfl rfl ?_
    refine jr_bipush dX8_allIn_5 bp_10 ?_
    refine jr_aload_n dX8_allIn_7 rfl rfl jv_rr ?_
    refine tr_getR (c := 4) hT (List.mem_of_getElem? (i := 3) rfl) fl_X8_23_23 dX8_allIn_8 ?_
    refine jr_iconst dX8_allIn_11 ic_0 ?_
    obtain ⟨g3, hf⟩ := so_gdE hf
    refine tr_iaload hT (show tm_k 4 = 50 from rfl) rfl (so_inE g3) dX8_allIn_12 ?_
    refine jr_imul dX8_allIn_13 ?_
    refine jr_icmp_ge (tgt := 31) dX8_allIn_14 rfl (fun c4 => ?_) (fun c4 => ?_)
    · have hf := so_t c4 hf
      refine jr_iload_n dX8_allIn_31 rfl rfl ?_
      obtain rfl := so_e1 hf
      exact jr_iret rfl rfl dX8_allIn_32
    · have hf := so_f c4 hf
      refine jr_iload_n dX8_allIn_17 rfl rfl ?_
      refine jr_aload_n dX8_allIn_18 rfl rfl jv_rr ?_
      refine jr_iconst dX8_allIn_19 ic_0 ?_
      refine jr_iload_n dX8_allIn_20 rfl rfl ?_
      refine jr_iadd dX8_allIn_21 ?_
      obtain ⟨g5, hf⟩ := so_gdE hf
      refine tr_iaload hT k_f1 rfl (so_inE g5) dX8_allIn_22 ?_
      refine jr_iadd dX8_allIn_23 ?_
      refine jr_istore_n (lv' := [(0, .ref (tm_a 0)), (1, .ref (tm_a f1)), (2, .int (v1 + (sg f1 ((0 : Int32) + v2).toNatClampNeg))), (3, .int v2)]) dX8_allIn_24 rfl (so_le rfl) rfl ?_
      refine jr_iinc (v := v2 + (1 : Int32)) (lv' := [(0, .ref (tm_a 0)), (1, .ref (tm_a f1)), (2, .int (v1 + (sg f1 ((0 : Int32) + v2).toNatClampNeg))), (3, .int (v2 + (1 : Int32)))]) dX8_allIn_25 rfl rfl (so_le rfl) rfl ?_
      refine jr_goto (tgt := 4) dX8_allIn_28 rfl ?_
      exact ih (v1 + (sg f1 ((0 : Int32) + v2).toNatClampNeg)) (v2 + (1 : Int32)) hf
def fX8_allIn (a1 : Nat) (sg : tm_S) : Option Int32 :=
  LX8_allIn_4 a1 sg so_N (0 : Int32) (0 : Int32)
set_option maxHeartbeats 4000000 in
set_option maxRecDepth 100000 in
theorem wX8_allIn {res : Int32} {S0 : so_St}  (a1 : Nat) (hT : tm_Sh S0) (sg : tm_S) (k_a1 : tm_k a1 = 50) (hf : fX8_allIn a1 sg = some res) : jx_Sp 0 yX8_allIn (ws_ yX8_allIn cX8_allIn 4 (Option.some Jvm.ClassFile.FieldType.int)) [.ref (tm_a 0), .ref (tm_a a1)] (tm_j S0 sg) (.inl (some (.int res))) (tm_j S0 sg) := by
  refine jx_of (plainFor_of_name (by decide)) (so_le rfl) ?_
  show jg_ ((tm_j S0 sg), (tm_j S0 sg), .inl (some (.int res))) kX8_allIn 0 [(0, .ref (tm_a 0)), (1, .ref (tm_a a1))] [] (tm_j S0 sg)
  unfold fX8_allIn at hf
  refine jr_iconst dX8_allIn_0 ic_0 ?_
  refine jr_istore_n (lv' := [(0, .ref (tm_a 0)), (1, .ref (tm_a a1)), (2, .int (0 : Int32))]) dX8_allIn_1 rfl (so_le rfl) rfl ?_
  refine jr_iconst dX8_allIn_2 ic_0 ?_
  refine jr_istore_n (lv' := [(0, .ref (tm_a 0)), (1, .ref (tm_a a1)), (2, .int (0 : Int32)), (3, .int (0 : Int32))]) dX8_allIn_3 rfl (so_le rfl) rfl ?_
  refine wX8_allIn_4 a1 hT sg k_a1 so_N (0 : Int32) (0 : Int32) hf

/- X8_told -/
abbrev kX8_told : jx_K := (cX8_told, 5, RX8, 4, (Option.some Jvm.ClassFile.FieldType.int), "told", [])
def LX8_told_38 (f1 : Int32) (k104 : Int32 → Int32 → tm_S → Option (Int32 × tm_S)) : Nat → Int32 → Int32 → Int32 → tm_S → Option (Int32 × tm_S)
  | 0, _, _, _, _ => none
  | n + 1, v8, v9, v10, S11 =>
    so_gd (so_in (2 : Int32) 4) fun _ =>
    if (S11 4 (2 : Int32).toNatClampNeg) ≤ v10 then
    (k104 v8 v9 S11)
    else
    (so_gd (so_in ((80 : Int32) + v10) 100) fun _ =>
    so_j (κ := Int32 → Option (Int32 × tm_S)) (ρ := Option (Int32 × tm_S)) (fun (v15 : Int32) =>
    (fX8_fightsOf 468 v10 S11).bind fun r18 =>
    so_j (κ := Int32 → Option (Int32 × tm_S)) (ρ := Option (Int32 × tm_S)) (fun (v19 : Int32) =>
    LX8_told_38 f1 k104 n (v8 ||| v15) (v9 ||| v19) (v10 + (1 : Int32)) S11)
    (fun J20 =>
    if r18 = (0 : Int32) then
    (J20 (0 : Int32))
    else
    (J20 ((1 : Int32) <<< (v10 &&& 31)))))
    (fun J16 =>
    if (S11 468 ((80 : Int32) + v10).toNatClampNeg) = (-1 : Int32) then
    (J16 (0 : Int32))
    else
    (J16 ((1 : Int32) <<< (v10 &&& 31)))))
set_option maxHeartbeats 4000000 in
set_option maxRecDepth 100000 in
theorem wX8_told_38 {res : Int32} {sg' : tm_S} {S0 : so_St} {sg0 : tm_S}   (f1 : Int32) (hT : tm_Sh S0)   (k104 : Int32 → Int32 → tm_S → Option (Int32 × tm_S)) (h104 : ∀ (v23 : Int32) (v24 : Int32) (S25 : tm_S), k104 v23 v24 S25 = some (res, sg') → jg_ (tm_j S0 sg0, tm_j S0 sg', .inl (some (.int res))) kX8_told 104 [(0, .ref (tm_a 0)), (1, .int f1), (2, .int v23), (3, .int v24)] [] (tm_j S0 S25)) : ∀ (n : Nat) (v8 : Int32) (v9 : Int32) (v10 : Int32) (S11 : tm_S), LX8_told_38 f1 k104 n v8 v9 v10 S11 = some (res, sg') → jg_ (tm_j S0 sg0, tm_j S0 sg', .inl (some (.int res))) kX8_told 38 [(0, .ref (tm_a 0)), (1, .int f1), (2, .int v8), (3, .int v9), (4, .int v10)] [] (tm_j S0 S11) := by
  intro n
  induction n with
  | zero =>
    intro v8 v9 v10 S11 hf
    exact so_no hf
  | succ n ih =>
    intro v8 v9 v10 S11 hf
    rw [LX8_told_38] at hf
    refine jr_iload dX8_told_38 rfl ?_
    refine jr_aload_n dX8_told_40 rfl rfl jv_rr ?_
    refine tr_getR (c := 4) hT (List.mem_of_getElem? (i := 3) rfl) fl_X8_23_23 dX8_told_41 ?_
    refine jr_iconst dX8_told_44 ic_2 ?_
    obtain ⟨g12, hf⟩ := so_gdE hf
    refine tr_iaload hT (show tm_k 4 = 50 from rfl) rfl (so_inE g12) dX8_told_45 ?_
    refine jr_icmp_ge (tgt := 104) dX8_told_46 rfl (fun c13 => ?_) (fun c13 => ?_)
    · have hf := so_t c13 hf
      refine jr_sub [0, 1, 2, 3] rfl ?_
      exact h104 v8 v9 S11 hf
    · have hf := so_f c13 hf
      refine jr_iload_n dX8_told_49 rfl rfl ?_
      refine jr_aload_n dX8_told_50 rfl rfl jv_rr ?_
      refine tr_getR (c := 468) hT (List.mem_of_getElem? (i := 19) rfl) fl_X8_73_23 dX8_told_51 ?_
      refine jr_bipush dX8_told_54 bp_80 ?_
      refine jr_iload dX8_told_56 rfl ?_
      refine jr_iadd dX8_told_58 ?_
      obtain ⟨g14, hf⟩ := so_gdE hf
      refine tr_iaload hT (show tm_k 468 = 50 from rfl) rfl (so_inE g14) dX8_told_59 ?_
      refine jr_iconst dX8_told_60 ic_m1 ?_
      refine so_jE hf (fun J => ∀ (v15 : Int32), J v15 = some (res, sg') → jg_ (tm_j S0 sg0, tm_j S0 sg', .inl (some (.int res))) kX8_told 72 [(0, .ref (tm_a 0)), (1, .int f1), (3, .int v9), (4, .int v10)] [.int v15, .int v8] (tm_j S0 S11)) (fun v15 hf => ?_) (fun J16 hJ16 hf => ?_)
      · refine jr_ior dX8_told_72 ?_
        refine jr_istore_n (lv' := [(0, .ref (tm_a 0)), (1, .int f1), (2, .int (v8 ||| v15)), (3, .int v9), (4, .int v10)]) dX8_told_73 rfl (so_le rfl) rfl ?_
        refine jr_iload_n dX8_told_74 rfl rfl ?_
        refine jr_aload_n dX8_told_75 rfl rfl jv_rr ?_
        refine jr_aload_n dX8_told_76 rfl rfl jv_rr ?_
        refine tr_getR (c := 468) hT (List.mem_of_getElem? (i := 19) rfl) fl_X8_73_23 dX8_told_77 ?_
        refine jr_iload dX8_told_80 rfl ?_
        obtain ⟨r18, h17, hf⟩ := so_b hf
        refine jr_callM (st := [.int v9]) lk_X8_329_23 (wX8_fightsOf 468 v10 hT S11 (show tm_k 468 = 50 from rfl) h17) tm_k23 rfl rfl rfl (so_le rfl) (so_le rfl) dX8_told_82 ?_
        refine so_jE hf (fun J => ∀ (v19 : Int32), J v19 = some (res, sg') → jg_ (tm_j S0 sg0, tm_j S0 sg', .inl (some (.int res))) kX8_told 96 [(0, .ref (tm_a 0)), (1, .int f1), (2, .int (v8 ||| v15)), (4, .int v10)] [.int v19, .int v9] (tm_j S0 S11)) (fun v19 hf => ?_) (fun J20 hJ20 hf => ?_)
        · refine jr_ior dX8_told_96 ?_
          refine jr_istore_n (lv' := [(0, .ref (tm_a 0)), (1, .int f1), (2, .int (v8 ||| v15)), (3, .int (v9 ||| v19)), (4, .int v10)]) dX8_told_97 rfl (so_le rfl) rfl ?_
          refine jr_iinc (v := v10 + (1 : Int32)) (lv' := [(0, .ref (tm_a 0)), (1, .int f1), (2, .int (v8 ||| v15)), (3, .int (v9 ||| v19)), (4, .int (v10 + (1 : Int32)))]) dX8_told_98 rfl rfl (so_le rfl) rfl ?_
          refine jr_goto (tgt := 38) dX8_told_101 rfl ?_
          exact ih (v8 ||| v15) (v9 ||| v19) (v10 + (1 : Int32)) S11 hf
        · refine jr_if_ne (tgt := 92) dX8_told_85 rfl (fun c21 => ?_) (fun c21 => ?_)
          · have hf := so_f c21 hf
            refine jr_iconst dX8_told_92 ic_1 ?_
            refine jr_iload dX8_told_93 rfl ?_
            refine jr_ishl dX8_told_95 ?_
            refine jr_sub [0, 1, 2, 4] rfl ?_
            exact hJ20 ((1 : Int32) <<< (v10 &&& 31)) hf
          · have hf := so_t c21 hf
            refine jr_iconst dX8_told_88 ic_0 ?_
            refine jr_goto (tgt := 96) dX8_told_89 rfl ?_
            refine jr_sub [0, 1, 2, 4] rfl ?_
            exact hJ20 (0 : Int32) hf
      · refine jr_icmp_ne (tgt := 68) dX8_told_61 rfl (fun c22 => ?_) (fun c22 => ?_)
        · have hf := so_f c22 hf
          refine jr_iconst dX8_told_68 ic_1 ?_
          refine jr_iload dX8_told_69 rfl ?_
          refine jr_ishl dX8_told_71 ?_
          refine jr_sub [0, 1, 3, 4] rfl ?_
          exact hJ16 ((1 : Int32) <<< (v10 &&& 31)) hf
        · have hf := so_t c22 hf
          refine jr_iconst dX8_told_64 ic_0 ?_
          refine jr_goto (tgt := 72) dX8_told_65 rfl ?_
          refine jr_sub [0, 1, 3, 4] rfl ?_
          exact hJ16 (0 : Int32) hf
def fX8_told (a1 : Int32) (sg : tm_S) : Option (Int32 × tm_S) :=
  tm_let (tm_up sg 0 0 (0 : Int32)) fun S1 =>
  so_j (κ := Int32 → Option (Int32 × tm_S)) (ρ := Option (Int32 × tm_S)) (fun (v2 : Int32) =>
  tm_b2 (fX8_bad v2 (1 : Int32) (1 : Int32) S1) fun r5 S6 =>
  if r5 = (0 : Int32) then
  (LX8_told_38 a1 (fun (v26 : Int32) (v27 : Int32) (S28 : tm_S) =>
  so_j (κ := Unit → Option (Int32 × tm_S)) (ρ := Option (Int32 × tm_S)) (fun (_u : Unit) =>
  so_gd (so_in a1 4) fun _ =>
  some ((S28 4 a1.toNatClampNeg), S28))
  (fun J29 =>
  if a1 = (0 : Int32) then
  (J29 ())
  else
  if a1 = (1 : Int32) then
  (J29 ())
  else
  if a1 = (2 : Int32) then
  (J29 ())
  else
  if a1 = (3 : Int32) then
  (so_gd (so_in (99 : Int32) 100) fun _ =>
  some ((S28 468 (99 : Int32).toNatClampNeg), S28))
  else
  if a1 = (4 : Int32) then
  (so_gd (so_in (98 : Int32) 100) fun _ =>
  some ((S28 468 (98 : Int32).toNatClampNeg), S28))
  else
  if a1 = (5 : Int32) then
  (some (v26, S28))
  else
  if a1 = (6 : Int32) then
  ((fX8_wishedIn 468 S28).bind fun r41 =>
  some (r41, S28))
  else
  if a1 = (7 : Int32) then
  (some (v27, S28))
  else
  if a1 = (8 : Int32) then
  (some ((S28 0 36), S28))
  else
  if a1 = (9 : Int32) then
  (some ((S28 0 38), S28))
  else
  ((fX8_allIn 468 S28).bind fun r46 =>
  some (r46, S28)))) so_N (0 : Int32) (0 : Int32) (0 : Int32) S6)
  else
  (some ((0 : Int32), S6)))
  (fun J3 =>
  if (fX8_in a1 (0 : Int32) (10 : Int32)) = (0 : Int32) then
  (J3 (1 : Int32))
  else
  (J3 (0 : Int32)))
set_option maxHeartbeats 4000000 in
set_option maxRecDepth 100000 in
theorem wX8_told {res : Int32} {sg' : tm_S} {S0 : so_St}  (a1 : Int32) (hT : tm_Sh S0) (sg : tm_S)  (hf : fX8_told a1 sg = some (res, sg')) : jx_Sp 4 yX8_told (ws_ yX8_told cX8_told 5 (Option.some Jvm.ClassFile.FieldType.int)) [.ref (tm_a 0), .int a1] (tm_j S0 sg) (.inl (some (.int res))) (tm_j S0 sg') := by
  refine jx_of (plainFor_of_name (by decide)) (so_le rfl) ?_
  show jg_ ((tm_j S0 sg), (tm_j S0 sg'), .inl (some (.int res))) kX8_told 0 [(0, .ref (tm_a 0)), (1, .int a1)] [] (tm_j S0 sg)
  unfold fX8_told at hf
  refine jr_aload_n dX8_told_0 rfl rfl jv_rr ?_
  refine jr_iconst dX8_told_1 ic_0 ?_
  refine tr_putI fp_X8_106_23 dX8_told_2 ?_
  refine tm_let_e hf (fun S1 hf => ?_)
  refine jr_aload_n dX8_told_5 rfl rfl jv_rr ?_
  refine jr_iload_n dX8_told_6 rfl rfl ?_
  refine jr_iconst dX8_told_7 ic_0 ?_
  refine jr_bipush dX8_told_8 bp_10 ?_
  refine jr_call (st := [.ref (tm_a 0)]) lk_X8_140 (wX8_in a1 (0 : Int32) (10 : Int32) hT S1 rfl) jk_r0 rfl rfl (so_le rfl) (so_le rfl) dX8_told_10 ?_
  refine so_jE hf (fun J => ∀ (v2 : Int32), J v2 = some (res, sg') → jg_ (tm_j S0 sg, tm_j S0 sg', .inl (some (.int res))) kX8_told 21 [(0, .ref (tm_a 0)), (1, .int a1)] [.int v2, .ref (tm_a 0)] (tm_j S0 S1)) (fun v2 hf => ?_) (fun J3 hJ3 hf => ?_)
  · refine jr_iconst dX8_told_21 ic_1 ?_
    refine jr_iconst dX8_told_22 ic_1 ?_
    obtain ⟨r5, S6, h4, hf⟩ := tm_b2E hf
    refine jr_callM (st := []) lk_X8_189_23 (wX8_bad v2 (1 : Int32) (1 : Int32) hT S1 h4) tm_k23 rfl rfl rfl (so_le rfl) (so_le rfl) dX8_told_23 ?_
    refine jr_if_eq (tgt := 31) dX8_told_26 rfl (fun c7 => ?_) (fun c7 => ?_)
    · have hf := so_t c7 hf
      refine jr_iconst dX8_told_31 ic_0 ?_
      refine jr_istore_n (lv' := [(0, .ref (tm_a 0)), (1, .int a1), (2, .int (0 : Int32))]) dX8_told_32 rfl (so_le rfl) rfl ?_
      refine jr_iconst dX8_told_33 ic_0 ?_
      refine jr_istore_n (lv' := [(0, .ref (tm_a 0)), (1, .int a1), (2, .int (0 : Int32)), (3, .int (0 : Int32))]) dX8_told_34 rfl (so_le rfl) rfl ?_
      refine jr_iconst dX8_told_35 ic_0 ?_
      refine jr_istore (lv' := [(0, .ref (tm_a 0)), (1, .int a1), (2, .int (0 : Int32)), (3, .int (0 : Int32)), (4, .int (0 : Int32))]) dX8_told_36 (so_le rfl) rfl ?_
      refine wX8_told_38 a1 hT _ (fun v26 v27 S28 hf => ?_) so_N (0 : Int32) (0 : Int32) (0 : Int32) S6 hf
      refine jr_iload_n dX8_told_104 rfl rfl ?_
      refine so_jE hf (fun J => ∀ (u0 : Unit), J u0 = some (res, sg') → jg_ (tm_j S0 sg, tm_j S0 sg', .inl (some (.int res))) kX8_told 160 [(0, .ref (tm_a 0)), (1, .int a1)] [] (tm_j S0 S28)) (fun _u hf => ?_) (fun J29 hJ29 hf => ?_)
      · refine jr_aload_n dX8_told_160 rfl rfl jv_rr ?_
        refine tr_getR (c := 4) hT (List.mem_of_getElem? (i := 3) rfl) fl_X8_23_23 dX8_told_161 ?_
        refine jr_iload_n dX8_told_164 rfl rfl ?_
        obtain ⟨g30, hf⟩ := so_gdE hf
        refine tr_iaload hT (show tm_k 4 = 50 from rfl) rfl (so_inE g30) dX8_told_165 ?_
        obtain ⟨rfl, rfl⟩ := so_e2 hf
        exact jr_iret rfl rfl dX8_told_166
      · by_cases c31 : a1 = (0 : Int32)
        · have hf := so_t c31 hf
          refine jr_tsIn (tgt := 160) (0 : Int32) c31 dX8_told_105 (by decide) (by decide) rfl rfl ?_
          refine jr_sub [0, 1] rfl ?_
          exact hJ29 () hf
        · have hf := so_f c31 hf
          by_cases c32 : a1 = (1 : Int32)
          · have hf := so_t c32 hf
            refine jr_tsIn (tgt := 160) (1 : Int32) c32 dX8_told_105 (by decide) (by decide) rfl rfl ?_
            refine jr_sub [0, 1] rfl ?_
            exact hJ29 () hf
          · have hf := so_f c32 hf
            by_cases c33 : a1 = (2 : Int32)
            · have hf := so_t c33 hf
              refine jr_tsIn (tgt := 160) (2 : Int32) c33 dX8_told_105 (by decide) (by decide) rfl rfl ?_
              refine jr_sub [0, 1] rfl ?_
              exact hJ29 () hf
            · have hf := so_f c33 hf
              by_cases c34 : a1 = (3 : Int32)
              · have hf := so_t c34 hf
                refine jr_tsIn (tgt := 167) (3 : Int32) c34 dX8_told_105 (by decide) (by decide) rfl rfl ?_
                refine jr_aload_n dX8_told_167 rfl rfl jv_rr ?_
                refine tr_getR (c := 468) hT (List.mem_of_getElem? (i := 19) rfl) fl_X8_73_23 dX8_told_168 ?_
                refine jr_bipush dX8_told_171 bp_99 ?_
                obtain ⟨g35, hf⟩ := so_gdE hf
                refine tr_iaload hT (show tm_k 468 = 50 from rfl) rfl (so_inE g35) dX8_told_173 ?_
                obtain ⟨rfl, rfl⟩ := so_e2 hf
                exact jr_iret rfl rfl dX8_told_174
              · have hf := so_f c34 hf
                by_cases c36 : a1 = (4 : Int32)
                · have hf := so_t c36 hf
                  refine jr_tsIn (tgt := 175) (4 : Int32) c36 dX8_told_105 (by decide) (by decide) rfl rfl ?_
                  refine jr_aload_n dX8_told_175 rfl rfl jv_rr ?_
                  refine tr_getR (c := 468) hT (List.mem_of_getElem? (i := 19) rfl) fl_X8_73_23 dX8_told_176 ?_
                  refine jr_bipush dX8_told_179 bp_98 ?_
                  obtain ⟨g37, hf⟩ := so_gdE hf
                  refine tr_iaload hT (show tm_k 468 = 50 from rfl) rfl (so_inE g37) dX8_told_181 ?_
                  obtain ⟨rfl, rfl⟩ := so_e2 hf
                  exact jr_iret rfl rfl dX8_told_182
                · have hf := so_f c36 hf
                  by_cases c38 : a1 = (5 : Int32)
                  · have hf := so_t c38 hf
                    refine jr_tsIn (tgt := 183) (5 : Int32) c38 dX8_told_105 (by decide) (by decide) rfl rfl ?_
                    refine jr_iload_n dX8_told_183 rfl rfl ?_
                    obtain ⟨rfl, rfl⟩ := so_e2 hf
                    exact jr_iret rfl rfl dX8_told_184
                  · have hf := so_f c38 hf
                    by_cases c39 : a1 = (6 : Int32)
                    · have hf := so_t c39 hf
                      refine jr_tsIn (tgt := 185) (6 : Int32) c39 dX8_told_105 (by decide) (by decide) rfl rfl ?_
                      refine jr_aload_n dX8_told_185 rfl rfl jv_rr ?_
                      refine jr_aload_n dX8_told_186 rfl rfl jv_rr ?_
                      refine tr_getR (c := 468) hT (List.mem_of_getElem? (i := 19) rfl) fl_X8_73_23 dX8_told_187 ?_
                      obtain ⟨r41, h40, hf⟩ := so_b hf
                      refine jr_callM (st := []) lk_X8_332_23 (wX8_wishedIn 468 hT S28 (show tm_k 468 = 50 from rfl) h40) tm_k23 rfl rfl rfl (so_le rfl) (so_le rfl) dX8_told_190 ?_
                      obtain ⟨rfl, rfl⟩ := so_e2 hf
                      exact jr_iret rfl rfl dX8_told_193
                    · have hf := so_f c39 hf
                      by_cases c42 : a1 = (7 : Int32)
                      · have hf := so_t c42 hf
                        refine jr_tsIn (tgt := 194) (7 : Int32) c42 dX8_told_105 (by decide) (by decide) rfl rfl ?_
                        refine jr_iload_n dX8_told_194 rfl rfl ?_
                        obtain ⟨rfl, rfl⟩ := so_e2 hf
                        exact jr_iret rfl rfl dX8_told_195
                      · have hf := so_f c42 hf
                        by_cases c43 : a1 = (8 : Int32)
                        · have hf := so_t c43 hf
                          refine jr_tsIn (tgt := 196) (8 : Int32) c43 dX8_told_105 (by decide) (by decide) rfl rfl ?_
                          refine jr_aload_n dX8_told_196 rfl rfl jv_rr ?_
                          refine tr_getI fl_X8_209_23 dX8_told_197 ?_
                          obtain ⟨rfl, rfl⟩ := so_e2 hf
                          exact jr_iret rfl rfl dX8_told_200
                        · have hf := so_f c43 hf
                          by_cases c44 : a1 = (9 : Int32)
                          · have hf := so_t c44 hf
                            refine jr_tsIn (tgt := 201) (9 : Int32) c44 dX8_told_105 (by decide) (by decide) rfl rfl ?_
                            refine jr_aload_n dX8_told_201 rfl rfl jv_rr ?_
                            refine tr_getI fl_X8_215_23 dX8_told_202 ?_
                            obtain ⟨rfl, rfl⟩ := so_e2 hf
                            exact jr_iret rfl rfl dX8_told_205
                          · have hf := so_f c44 hf
                            refine jr_tsOut (tgt := 206) [(0 : Int32), (1 : Int32), (2 : Int32), (3 : Int32), (4 : Int32), (5 : Int32), (6 : Int32), (7 : Int32), (8 : Int32), (9 : Int32)] (by decide) (List.forall_mem_cons.mpr ⟨c31, List.forall_mem_cons.mpr ⟨c32, List.forall_mem_cons.mpr ⟨c33, List.forall_mem_cons.mpr ⟨c34, List.forall_mem_cons.mpr ⟨c36, List.forall_mem_cons.mpr ⟨c38, List.forall_mem_cons.mpr ⟨c39, List.forall_mem_cons.mpr ⟨c42, List.forall_mem_cons.mpr ⟨c43, List.forall_mem_cons.mpr ⟨c44, fun _ h => by cases h⟩⟩⟩⟩⟩⟩⟩⟩⟩⟩) dX8_told_105 rfl ?_
                            refine jr_aload_n dX8_told_206 rfl rfl jv_rr ?_
                            refine jr_aload_n dX8_told_207 rfl rfl jv_rr ?_
                            refine tr_getR (c := 468) hT (List.mem_of_getElem? (i := 19) rfl) fl_X8_73_23 dX8_told_208 ?_
                            obtain ⟨r46, h45, hf⟩ := so_b hf
                            refine jr_callM (st := []) lk_X8_336_23 (wX8_allIn 468 hT S28 (show tm_k 468 = 50 from rfl) h45) tm_k23 rfl rfl rfl (so_le rfl) (so_le rfl) dX8_told_211 ?_
                            obtain ⟨rfl, rfl⟩ := so_e2 hf
                            exact jr_iret rfl rfl dX8_told_214
    · have hf := so_f c7 hf
      refine jr_iconst dX8_told_29 ic_0 ?_
      obtain ⟨rfl, rfl⟩ := so_e2 hf
      exact jr_iret rfl rfl dX8_told_30
  · refine jr_if_ne (tgt := 20) dX8_told_13 rfl (fun c47 => ?_) (fun c47 => ?_)
    · have hf := so_f c47 hf
      refine jr_iconst dX8_told_20 ic_0 ?_
      exact hJ3 (0 : Int32) hf
    · have hf := so_t c47 hf
      refine jr_iconst dX8_told_16 ic_1 ?_
      refine jr_goto (tgt := 21) dX8_told_17 rfl ?_
      exact hJ3 (1 : Int32) hf

/- X8_isHouse -/
abbrev kX8_isHouse : jx_K := (cX8_isHouse, 2, RX8, 1, (Option.some Jvm.ClassFile.FieldType.boolean), "isHouse", [])
def fX8_isHouse (a1 : Int32) (sg : tm_S) : Option Int32 :=
  so_gd (so_in (0 : Int32) 4) fun _ =>
  so_gd (so_01 (fX8_in a1 (0 : Int32) ((sg 4 (0 : Int32).toNatClampNeg) - (1 : Int32)))) fun _ =>
  some (fX8_in a1 (0 : Int32) ((sg 4 (0 : Int32).toNatClampNeg) - (1 : Int32)))
set_option maxHeartbeats 4000000 in
set_option maxRecDepth 100000 in
theorem wX8_isHouse {res : Int32} {S0 : so_St}  (a1 : Int32) (hT : tm_Sh S0) (sg : tm_S)  (hf : fX8_isHouse a1 sg = some res) : jx_Sp 1 yX8_isHouse (ws_ yX8_isHouse cX8_isHouse 2 (Option.some Jvm.ClassFile.FieldType.boolean)) [.ref (tm_a 0), .int a1] (tm_j S0 sg) (.inl (some (.int res))) (tm_j S0 sg) := by
  refine jx_of (plainFor_of_name (by decide)) (so_le rfl) ?_
  show jg_ ((tm_j S0 sg), (tm_j S0 sg), .inl (some (.int res))) kX8_isHouse 0 [(0, .ref (tm_a 0)), (1, .int a1)] [] (tm_j S0 sg)
  unfold fX8_isHouse at hf
  refine jr_iload_n dX8_isHouse_0 rfl rfl ?_
  refine jr_iconst dX8_isHouse_1 ic_0 ?_
  refine jr_aload_n dX8_isHouse_2 rfl rfl jv_rr ?_
  refine tr_getR (c := 4) hT (List.mem_of_getElem? (i := 3) rfl) fl_X8_23_23 dX8_isHouse_3 ?_
  refine jr_iconst dX8_isHouse_6 ic_0 ?_
  obtain ⟨g1, hf⟩ := so_gdE hf
  refine tr_iaload hT (show tm_k 4 = 50 from rfl) rfl (so_inE g1) dX8_isHouse_7 ?_
  refine jr_iconst dX8_isHouse_8 ic_1 ?_
  refine jr_isub dX8_isHouse_9 ?_
  refine jr_call (st := []) lk_X8_140 (wX8_in a1 (0 : Int32) ((sg 4 (0 : Int32).toNatClampNeg) - (1 : Int32)) hT sg rfl) jk_r0 rfl rfl (so_le rfl) (so_le rfl) dX8_isHouse_10 ?_
  obtain ⟨g2, hf⟩ := so_gdE hf
  obtain rfl := so_e1 hf
  exact jr_iret rfl (so_01n (so_01E g2)) dX8_isHouse_13

/- X8_house -/
abbrev kX8_house : jx_K := (cX8_house, 6, RX8, 2, (Option.some Jvm.ClassFile.FieldType.int), "house", [])
def LX8_house_60 (f1 : Int32) (f2 : Int32) (f4 : Int32) (k98 : Int32 → tm_S → Option (Int32 × tm_S)) : Nat → Int32 → Int32 → tm_S → Option (Int32 × tm_S)
  | 0, _, _, _ => none
  | n + 1, v16, v17, S18 =>
    so_gd (so_in (0 : Int32) 4) fun _ =>
    if (S18 4 (0 : Int32).toNatClampNeg) ≤ v17 then
    (k98 v16 S18)
    else
    ((fX8_isWall f1 v17 S18).bind fun r22 =>
    so_j (κ := Int32 → Option (Int32 × tm_S)) (ρ := Option (Int32 × tm_S)) (fun (v23 : Int32) =>
    LX8_house_60 f1 f2 f4 k98 n (v16 ||| v23) (v17 + (1 : Int32)) S18)
    (fun J24 =>
    if r22 = (0 : Int32) then
    (J24 (0 : Int32))
    else
    (J24 ((1 : Int32) <<< (v17 &&& 31)))))
set_option maxHeartbeats 4000000 in
set_option maxRecDepth 100000 in
theorem wX8_house_60 {res : Int32} {sg' : tm_S} {S0 : so_St} {sg0 : tm_S}   (f1 : Int32) (f2 : Int32) (f4 : Int32) (hT : tm_Sh S0)   (k98 : Int32 → tm_S → Option (Int32 × tm_S)) (h98 : ∀ (v26 : Int32) (S27 : tm_S), k98 v26 S27 = some (res, sg') → jg_ (tm_j S0 sg0, tm_j S0 sg', .inl (some (.int res))) kX8_house 98 [(0, .ref (tm_a 0)), (1, .int f1), (2, .int f2), (3, .int v26), (4, .int f4)] [] (tm_j S0 S27)) : ∀ (n : Nat) (v16 : Int32) (v17 : Int32) (S18 : tm_S), LX8_house_60 f1 f2 f4 k98 n v16 v17 S18 = some (res, sg') → jg_ (tm_j S0 sg0, tm_j S0 sg', .inl (some (.int res))) kX8_house 60 [(0, .ref (tm_a 0)), (1, .int f1), (2, .int f2), (3, .int v16), (4, .int f4), (5, .int v17)] [] (tm_j S0 S18) := by
  intro n
  induction n with
  | zero =>
    intro v16 v17 S18 hf
    exact so_no hf
  | succ n ih =>
    intro v16 v17 S18 hf
    rw [LX8_house_60] at hf
    refine jr_iload dX8_house_60 rfl ?_
    refine jr_aload_n dX8_house_62 rfl rfl jv_rr ?_
    refine tr_getR (c := 4) hT (List.mem_of_getElem? (i := 3) rfl) fl_X8_23_23 dX8_house_63 ?_
    refine jr_iconst dX8_house_66 ic_0 ?_
    obtain ⟨g19, hf⟩ := so_gdE hf
    refine tr_iaload hT (show tm_k 4 = 50 from rfl) rfl (so_inE g19) dX8_house_67 ?_
    refine jr_icmp_ge (tgt := 98) dX8_house_68 rfl (fun c20 => ?_) (fun c20 => ?_)
    · have hf := so_t c20 hf
      refine jr_sub [0, 1, 2, 3, 4] rfl ?_
      exact h98 v16 S18 hf
    · have hf := so_f c20 hf
      refine jr_iload_n dX8_house_71 rfl rfl ?_
      refine jr_aload_n dX8_house_72 rfl rfl jv_rr ?_
      refine jr_iload_n dX8_house_73 rfl rfl ?_
      refine jr_iload dX8_house_74 rfl ?_
      obtain ⟨r22, h21, hf⟩ := so_b hf
      refine jr_callM (st := [.int v16]) lk_X8_268_23 (wX8_isWall f1 v17 hT S18 h21) tm_k23 rfl rfl rfl (so_le rfl) (so_le rfl) dX8_house_76 ?_
      refine so_jE hf (fun J => ∀ (v23 : Int32), J v23 = some (res, sg') → jg_ (tm_j S0 sg0, tm_j S0 sg', .inl (some (.int res))) kX8_house 90 [(0, .ref (tm_a 0)), (1, .int f1), (2, .int f2), (4, .int f4), (5, .int v17)] [.int v23, .int v16] (tm_j S0 S18)) (fun v23 hf => ?_) (fun J24 hJ24 hf => ?_)
      · refine jr_ior dX8_house_90 ?_
        refine jr_istore_n (lv' := [(0, .ref (tm_a 0)), (1, .int f1), (2, .int f2), (3, .int (v16 ||| v23)), (4, .int f4), (5, .int v17)]) dX8_house_91 rfl (so_le rfl) rfl ?_
        refine jr_iinc (v := v17 + (1 : Int32)) (lv' := [(0, .ref (tm_a 0)), (1, .int f1), (2, .int f2), (3, .int (v16 ||| v23)), (4, .int f4), (5, .int (v17 + (1 : Int32)))]) dX8_house_92 rfl rfl (so_le rfl) rfl ?_
        refine jr_goto (tgt := 60) dX8_house_95 rfl ?_
        exact ih (v16 ||| v23) (v17 + (1 : Int32)) S18 hf
      · refine jr_if_eq (tgt := 89) dX8_house_79 rfl (fun c25 => ?_) (fun c25 => ?_)
        · have hf := so_t c25 hf
          refine jr_iconst dX8_house_89 ic_0 ?_
          refine jr_sub [0, 1, 2, 4, 5] rfl ?_
          exact hJ24 (0 : Int32) hf
        · have hf := so_f c25 hf
          refine jr_iconst dX8_house_82 ic_1 ?_
          refine jr_iload dX8_house_83 rfl ?_
          refine jr_ishl dX8_house_85 ?_
          refine jr_goto (tgt := 90) dX8_house_86 rfl ?_
          refine jr_sub [0, 1, 2, 4, 5] rfl ?_
          exact hJ24 ((1 : Int32) <<< (v17 &&& 31)) hf
def LX8_house_101 (f1 : Int32) (f2 : Int32) (f3 : Int32) (k138 : Int32 → tm_S → Option (Int32 × tm_S)) : Nat → Int32 → Int32 → tm_S → Option (Int32 × tm_S)
  | 0, _, _, _ => none
  | n + 1, v30, v31, S32 =>
    if (10 : Int32) ≤ v31 then
    (k138 v30 S32)
    else
    ((fX8_amount 468 f1 v31 S32).bind fun r35 =>
    so_j (κ := Int32 → Option (Int32 × tm_S)) (ρ := Option (Int32 × tm_S)) (fun (v36 : Int32) =>
    LX8_house_101 f1 f2 f3 k138 n (v30 + v36) (v31 + (1 : Int32)) S32)
    (fun J37 =>
    if r35 ≤ (0 : Int32) then
    (J37 (0 : Int32))
    else
    (J37 (1 : Int32))))
set_option maxHeartbeats 4000000 in
set_option maxRecDepth 100000 in
theorem wX8_house_101 {res : Int32} {sg' : tm_S} {S0 : so_St} {sg0 : tm_S}   (f1 : Int32) (f2 : Int32) (f3 : Int32) (hT : tm_Sh S0)   (k138 : Int32 → tm_S → Option (Int32 × tm_S)) (h138 : ∀ (v39 : Int32) (S40 : tm_S), k138 v39 S40 = some (res, sg') → jg_ (tm_j S0 sg0, tm_j S0 sg', .inl (some (.int res))) kX8_house 138 [(0, .ref (tm_a 0)), (1, .int f1), (2, .int f2), (3, .int f3), (4, .int v39)] [] (tm_j S0 S40)) : ∀ (n : Nat) (v30 : Int32) (v31 : Int32) (S32 : tm_S), LX8_house_101 f1 f2 f3 k138 n v30 v31 S32 = some (res, sg') → jg_ (tm_j S0 sg0, tm_j S0 sg', .inl (some (.int res))) kX8_house 101 [(0, .ref (tm_a 0)), (1, .int f1), (2, .int f2), (3, .int f3), (4, .int v30), (5, .int v31)] [] (tm_j S0 S32) := by
  intro n
  induction n with
  | zero =>
    intro v30 v31 S32 hf
    exact so_no hf
  | succ n ih =>
    intro v30 v31 S32 hf
    rw [LX8_house_101] at hf
    refine jr_iload dX8_house_101 rfl ?_
    refine jr_bipush dX8_house_103 bp_10 ?_
    refine jr_icmp_ge (tgt := 138) dX8_house_105 rfl (fun c33 => ?_) (fun c33 => ?_)
    · have hf := so_t c33 hf
      refine jr_sub [0, 1, 2, 3, 4] rfl ?_
      exact h138 v30 S32 hf
    · have hf := so_f c33 hf
      refine jr_iload dX8_house_108 rfl ?_
      refine jr_aload_n dX8_house_110 rfl rfl jv_rr ?_
      refine jr_aload_n dX8_house_111 rfl rfl jv_rr ?_
      refine tr_getR (c := 468) hT (List.mem_of_getElem? (i := 19) rfl) fl_X8_73_23 dX8_house_112 ?_
      refine jr_iload_n dX8_house_115 rfl rfl ?_
      refine jr_iload dX8_house_116 rfl ?_
      obtain ⟨r35, h34, hf⟩ := so_b hf
      refine jr_callM (st := [.int v30]) lk_X8_323_23 (wX8_amount 468 f1 v31 hT S32 (show tm_k 468 = 50 from rfl) h34) tm_k23 rfl rfl rfl (so_le rfl) (so_le rfl) dX8_house_118 ?_
      refine so_jE hf (fun J => ∀ (v36 : Int32), J v36 = some (res, sg') → jg_ (tm_j S0 sg0, tm_j S0 sg', .inl (some (.int res))) kX8_house 129 [(0, .ref (tm_a 0)), (1, .int f1), (2, .int f2), (3, .int f3), (5, .int v31)] [.int v36, .int v30] (tm_j S0 S32)) (fun v36 hf => ?_) (fun J37 hJ37 hf => ?_)
      · refine jr_iadd dX8_house_129 ?_
        refine jr_istore (lv' := [(0, .ref (tm_a 0)), (1, .int f1), (2, .int f2), (3, .int f3), (4, .int (v30 + v36)), (5, .int v31)]) dX8_house_130 (so_le rfl) rfl ?_
        refine jr_iinc (v := v31 + (1 : Int32)) (lv' := [(0, .ref (tm_a 0)), (1, .int f1), (2, .int f2), (3, .int f3), (4, .int (v30 + v36)), (5, .int (v31 + (1 : Int32)))]) dX8_house_132 rfl rfl (so_le rfl) rfl ?_
        refine jr_goto (tgt := 101) dX8_house_135 rfl ?_
        exact ih (v30 + v36) (v31 + (1 : Int32)) S32 hf
      · refine jr_if_le (tgt := 128) dX8_house_121 rfl (fun c38 => ?_) (fun c38 => ?_)
        · have hf := so_t c38 hf
          refine jr_iconst dX8_house_128 ic_0 ?_
          refine jr_sub [0, 1, 2, 3, 5] rfl ?_
          exact hJ37 (0 : Int32) hf
        · have hf := so_f c38 hf
          refine jr_iconst dX8_house_124 ic_1 ?_
          refine jr_goto (tgt := 129) dX8_house_125 rfl ?_
          refine jr_sub [0, 1, 2, 3, 5] rfl ?_
          exact hJ37 (1 : Int32) hf
def fX8_house (a1 : Int32) (a2 : Int32) (sg : tm_S) : Option (Int32 × tm_S) :=
  tm_let (tm_up sg 0 0 (0 : Int32)) fun S1 =>
  (fX8_isHouse a1 S1).bind fun r3 =>
  so_j (κ := Int32 → Option (Int32 × tm_S)) (ρ := Option (Int32 × tm_S)) (fun (v4 : Int32) =>
  tm_b2 (fX8_bad v4 (1 : Int32) (0 : Int32) S1) fun r7 S8 =>
  if r7 = (0 : Int32) then
  (so_j (κ := Int32 → Option (Int32 × tm_S)) (ρ := Option (Int32 × tm_S)) (fun (v10 : Int32) =>
  tm_b2 (fX8_bad v10 (2 : Int32) (1 : Int32) S8) fun r13 S14 =>
  if r13 = (0 : Int32) then
  (LX8_house_60 a1 a2 (0 : Int32) (fun (v28 : Int32) (S29 : tm_S) =>
  LX8_house_101 a1 a2 v28 (fun (v41 : Int32) (S42 : tm_S) =>
  if a2 = (0 : Int32) then
  ((fX8_thingOf 468 a1 S42).bind fun r45 =>
  some (r45, S42))
  else
  if a2 = (1 : Int32) then
  ((fX8_pianoIn 468 a1 S42).bind fun r48 =>
  some (r48, S42))
  else
  if a2 = (2 : Int32) then
  (some (v28, S42))
  else
  if a2 = (3 : Int32) then
  (so_gd (so_in a1 8) fun _ =>
  some ((S42 8 a1.toNatClampNeg), S42))
  else
  if a2 = (4 : Int32) then
  (some (v41, S42))
  else
  (so_gd (so_in a1 8) fun _ =>
  some ((S42 6 a1.toNatClampNeg), S42))) so_N (0 : Int32) (0 : Int32) S29) so_N (0 : Int32) (0 : Int32) S14)
  else
  (some ((0 : Int32), S14)))
  (fun J11 =>
  if (fX8_in a2 (0 : Int32) (5 : Int32)) = (0 : Int32) then
  (J11 (1 : Int32))
  else
  (J11 (0 : Int32))))
  else
  (some ((0 : Int32), S8)))
  (fun J5 =>
  if r3 = (0 : Int32) then
  (J5 (1 : Int32))
  else
  (J5 (0 : Int32)))
set_option maxHeartbeats 4000000 in
set_option maxRecDepth 100000 in
theorem wX8_house {res : Int32} {sg' : tm_S} {S0 : so_St}  (a1 : Int32) (a2 : Int32) (hT : tm_Sh S0) (sg : tm_S)  (hf : fX8_house a1 a2 sg = some (res, sg')) : jx_Sp 2 yX8_house (ws_ yX8_house cX8_house 6 (Option.some Jvm.ClassFile.FieldType.int)) [.ref (tm_a 0), .int a1, .int a2] (tm_j S0 sg) (.inl (some (.int res))) (tm_j S0 sg') := by
  refine jx_of (plainFor_of_name (by decide)) (so_le rfl) ?_
  show jg_ ((tm_j S0 sg), (tm_j S0 sg'), .inl (some (.int res))) kX8_house 0 [(0, .ref (tm_a 0)), (1, .int a1), (2, .int a2)] [] (tm_j S0 sg)
  unfold fX8_house at hf
  refine jr_aload_n dX8_house_0 rfl rfl jv_rr ?_
  refine jr_iconst dX8_house_1 ic_0 ?_
  refine tr_putI fp_X8_106_23 dX8_house_2 ?_
  refine tm_let_e hf (fun S1 hf => ?_)
  refine jr_aload_n dX8_house_5 rfl rfl jv_rr ?_
  refine jr_aload_n dX8_house_6 rfl rfl jv_rr ?_
  refine jr_iload_n dX8_house_7 rfl rfl ?_
  obtain ⟨r3, h2, hf⟩ := so_b hf
  refine jr_callM (st := [.ref (tm_a 0)]) lk_X8_339_23 (wX8_isHouse a1 hT S1 h2) tm_k23 rfl rfl rfl (so_le rfl) (so_le rfl) dX8_house_8 ?_
  refine so_jE hf (fun J => ∀ (v4 : Int32), J v4 = some (res, sg') → jg_ (tm_j S0 sg, tm_j S0 sg', .inl (some (.int res))) kX8_house 19 [(0, .ref (tm_a 0)), (1, .int a1), (2, .int a2)] [.int v4, .ref (tm_a 0)] (tm_j S0 S1)) (fun v4 hf => ?_) (fun J5 hJ5 hf => ?_)
  · refine jr_iconst dX8_house_19 ic_1 ?_
    refine jr_iconst dX8_house_20 ic_0 ?_
    obtain ⟨r7, S8, h6, hf⟩ := tm_b2E hf
    refine jr_callM (st := []) lk_X8_189_23 (wX8_bad v4 (1 : Int32) (0 : Int32) hT S1 h6) tm_k23 rfl rfl rfl (so_le rfl) (so_le rfl) dX8_house_21 ?_
    refine jr_if_ne (tgt := 50) dX8_house_24 rfl (fun c9 => ?_) (fun c9 => ?_)
    · have hf := so_f c9 hf
      refine jr_iconst dX8_house_50 ic_0 ?_
      obtain ⟨rfl, rfl⟩ := so_e2 hf
      exact jr_iret rfl rfl dX8_house_51
    · have hf := so_t c9 hf
      refine jr_aload_n dX8_house_27 rfl rfl jv_rr ?_
      refine jr_iload_n dX8_house_28 rfl rfl ?_
      refine jr_iconst dX8_house_29 ic_0 ?_
      refine jr_iconst dX8_house_30 ic_5 ?_
      refine jr_call (st := [.ref (tm_a 0)]) lk_X8_140 (wX8_in a2 (0 : Int32) (5 : Int32) hT S8 rfl) jk_r0 rfl rfl (so_le rfl) (so_le rfl) dX8_house_31 ?_
      refine so_jE hf (fun J => ∀ (v10 : Int32), J v10 = some (res, sg') → jg_ (tm_j S0 sg, tm_j S0 sg', .inl (some (.int res))) kX8_house 42 [(0, .ref (tm_a 0)), (1, .int a1), (2, .int a2)] [.int v10, .ref (tm_a 0)] (tm_j S0 S8)) (fun v10 hf => ?_) (fun J11 hJ11 hf => ?_)
      · refine jr_iconst dX8_house_42 ic_2 ?_
        refine jr_iconst dX8_house_43 ic_1 ?_
        obtain ⟨r13, S14, h12, hf⟩ := tm_b2E hf
        refine jr_callM (st := []) lk_X8_189_23 (wX8_bad v10 (2 : Int32) (1 : Int32) hT S8 h12) tm_k23 rfl rfl rfl (so_le rfl) (so_le rfl) dX8_house_44 ?_
        refine jr_if_eq (tgt := 52) dX8_house_47 rfl (fun c15 => ?_) (fun c15 => ?_)
        · have hf := so_t c15 hf
          refine jr_iconst dX8_house_52 ic_0 ?_
          refine jr_istore_n (lv' := [(0, .ref (tm_a 0)), (1, .int a1), (2, .int a2), (3, .int (0 : Int32))]) dX8_house_53 rfl (so_le rfl) rfl ?_
          refine jr_iconst dX8_house_54 ic_0 ?_
          refine jr_istore (lv' := [(0, .ref (tm_a 0)), (1, .int a1), (2, .int a2), (3, .int (0 : Int32)), (4, .int (0 : Int32))]) dX8_house_55 (so_le rfl) rfl ?_
          refine jr_iconst dX8_house_57 ic_0 ?_
          refine jr_istore (lv' := [(0, .ref (tm_a 0)), (1, .int a1), (2, .int a2), (3, .int (0 : Int32)), (4, .int (0 : Int32)), (5, .int (0 : Int32))]) dX8_house_58 (so_le rfl) rfl ?_
          refine wX8_house_60 a1 a2 (0 : Int32) hT _ (fun v28 S29 hf => ?_) so_N (0 : Int32) (0 : Int32) S14 hf
          refine jr_iconst dX8_house_98 ic_0 ?_
          refine jr_istore (lv' := [(0, .ref (tm_a 0)), (1, .int a1), (2, .int a2), (3, .int v28), (4, .int (0 : Int32)), (5, .int (0 : Int32))]) dX8_house_99 (so_le rfl) rfl ?_
          refine wX8_house_101 a1 a2 v28 hT _ (fun v41 S42 hf => ?_) so_N (0 : Int32) (0 : Int32) S29 hf
          refine jr_iload_n dX8_house_138 rfl rfl ?_
          by_cases c43 : a2 = (0 : Int32)
          · have hf := so_t c43 hf
            refine jr_tsIn (tgt := 172) (0 : Int32) c43 dX8_house_139 (by decide) (by decide) rfl rfl ?_
            refine jr_aload_n dX8_house_172 rfl rfl jv_rr ?_
            refine jr_aload_n dX8_house_173 rfl rfl jv_rr ?_
            refine tr_getR (c := 468) hT (List.mem_of_getElem? (i := 19) rfl) fl_X8_73_23 dX8_house_174 ?_
            refine jr_iload_n dX8_house_177 rfl rfl ?_
            obtain ⟨r45, h44, hf⟩ := so_b hf
            refine jr_callM (st := []) lk_X8_326_23 (wX8_thingOf 468 a1 hT S42 (show tm_k 468 = 50 from rfl) h44) tm_k23 rfl rfl rfl (so_le rfl) (so_le rfl) dX8_house_178 ?_
            obtain ⟨rfl, rfl⟩ := so_e2 hf
            exact jr_iret rfl rfl dX8_house_181
          · have hf := so_f c43 hf
            by_cases c46 : a2 = (1 : Int32)
            · have hf := so_t c46 hf
              refine jr_tsIn (tgt := 182) (1 : Int32) c46 dX8_house_139 (by decide) (by decide) rfl rfl ?_
              refine jr_aload_n dX8_house_182 rfl rfl jv_rr ?_
              refine jr_aload_n dX8_house_183 rfl rfl jv_rr ?_
              refine tr_getR (c := 468) hT (List.mem_of_getElem? (i := 19) rfl) fl_X8_73_23 dX8_house_184 ?_
              refine jr_iload_n dX8_house_187 rfl rfl ?_
              obtain ⟨r48, h47, hf⟩ := so_b hf
              refine jr_callM (st := []) lk_X8_293_23 (wX8_pianoIn 468 a1 hT S42 (show tm_k 468 = 50 from rfl) h47) tm_k23 rfl rfl rfl (so_le rfl) (so_le rfl) dX8_house_188 ?_
              obtain ⟨rfl, rfl⟩ := so_e2 hf
              exact jr_iret rfl rfl dX8_house_191
            · have hf := so_f c46 hf
              by_cases c49 : a2 = (2 : Int32)
              · have hf := so_t c49 hf
                refine jr_tsIn (tgt := 192) (2 : Int32) c49 dX8_house_139 (by decide) (by decide) rfl rfl ?_
                refine jr_iload_n dX8_house_192 rfl rfl ?_
                obtain ⟨rfl, rfl⟩ := so_e2 hf
                exact jr_iret rfl rfl dX8_house_193
              · have hf := so_f c49 hf
                by_cases c50 : a2 = (3 : Int32)
                · have hf := so_t c50 hf
                  refine jr_tsIn (tgt := 194) (3 : Int32) c50 dX8_house_139 (by decide) (by decide) rfl rfl ?_
                  refine jr_aload_n dX8_house_194 rfl rfl jv_rr ?_
                  refine tr_getR (c := 8) hT (List.mem_of_getElem? (i := 7) rfl) fl_X8_35_23 dX8_house_195 ?_
                  refine jr_iload_n dX8_house_198 rfl rfl ?_
                  obtain ⟨g51, hf⟩ := so_gdE hf
                  refine tr_iaload hT (show tm_k 8 = 50 from rfl) rfl (so_inE g51) dX8_house_199 ?_
                  obtain ⟨rfl, rfl⟩ := so_e2 hf
                  exact jr_iret rfl rfl dX8_house_200
                · have hf := so_f c50 hf
                  by_cases c52 : a2 = (4 : Int32)
                  · have hf := so_t c52 hf
                    refine jr_tsIn (tgt := 201) (4 : Int32) c52 dX8_house_139 (by decide) (by decide) rfl rfl ?_
                    refine jr_iload dX8_house_201 rfl ?_
                    obtain ⟨rfl, rfl⟩ := so_e2 hf
                    exact jr_iret rfl rfl dX8_house_203
                  · have hf := so_f c52 hf
                    refine jr_tsOut (tgt := 204) [(0 : Int32), (1 : Int32), (2 : Int32), (3 : Int32), (4 : Int32)] (by decide) (List.forall_mem_cons.mpr ⟨c43, List.forall_mem_cons.mpr ⟨c46, List.forall_mem_cons.mpr ⟨c49, List.forall_mem_cons.mpr ⟨c50, List.forall_mem_cons.mpr ⟨c52, fun _ h => by cases h⟩⟩⟩⟩⟩) dX8_house_139 rfl ?_
                    refine jr_aload_n dX8_house_204 rfl rfl jv_rr ?_
                    refine tr_getR (c := 6) hT (List.mem_of_getElem? (i := 5) rfl) fl_X8_29_23 dX8_house_205 ?_
                    refine jr_iload_n dX8_house_208 rfl rfl ?_
                    obtain ⟨g53, hf⟩ := so_gdE hf
                    refine tr_iaload hT (show tm_k 6 = 50 from rfl) rfl (so_inE g53) dX8_house_209 ?_
                    obtain ⟨rfl, rfl⟩ := so_e2 hf
                    exact jr_iret rfl rfl dX8_house_210
        · have hf := so_f c15 hf
          refine jr_iconst dX8_house_50 ic_0 ?_
          obtain ⟨rfl, rfl⟩ := so_e2 hf
          exact jr_iret rfl rfl dX8_house_51
      · refine jr_if_ne (tgt := 41) dX8_house_34 rfl (fun c54 => ?_) (fun c54 => ?_)
        · have hf := so_f c54 hf
          refine jr_iconst dX8_house_41 ic_0 ?_
          exact hJ11 (0 : Int32) hf
        · have hf := so_t c54 hf
          refine jr_iconst dX8_house_37 ic_1 ?_
          refine jr_goto (tgt := 42) dX8_house_38 rfl ?_
          exact hJ11 (1 : Int32) hf
  · refine jr_if_ne (tgt := 18) dX8_house_11 rfl (fun c55 => ?_) (fun c55 => ?_)
    · have hf := so_f c55 hf
      refine jr_iconst dX8_house_18 ic_0 ?_
      exact hJ5 (0 : Int32) hf
    · have hf := so_t c55 hf
      refine jr_iconst dX8_house_14 ic_1 ?_
      refine jr_goto (tgt := 19) dX8_house_15 rfl ?_
      exact hJ5 (1 : Int32) hf
