/-! printed: functions and walks -/
set_option maxRecDepth 100000
set_option linter.unusedVariables false
/- X8_empty -/
abbrev kX8_empty : jx_K := (cX8_empty, 3, RX8, 1, (Option.some Jvm.ClassFile.FieldType.int), "empty", [])
def LX8_empty_9  : Nat → Int32 → Int32 → tm_S → Option (Int32 × tm_S)
  | 0, _, _, _ => none
  | n + 1, v2, v3, S4 =>
    so_gd (so_in (0 : Int32) 4) fun _ =>
    if (S4 4 (0 : Int32).toNatClampNeg) ≤ v3 then
    (some (v2, S4))
    else
    ((fX8_pianoIn 468 v3 S4).bind fun r8 =>
    so_j (κ := Int32 → Option (Int32 × tm_S)) (ρ := Option (Int32 × tm_S)) (fun (v9 : Int32) =>
    LX8_empty_9 n (v2 ||| v9) (v3 + (1 : Int32)) S4)
    (fun J10 =>
    if r8 = (-1 : Int32) then
    (J10 ((1 : Int32) <<< (v3 &&& 31)))
    else
    (J10 (0 : Int32))))
set_option maxHeartbeats 4000000 in
set_option maxRecDepth 100000 in
theorem wX8_empty_9 {res : Int32} {sg' : tm_S} {S0 : so_St} {sg0 : tm_S}    (hT : tm_Sh S0)   : ∀ (n : Nat) (v2 : Int32) (v3 : Int32) (S4 : tm_S), LX8_empty_9 n v2 v3 S4 = some (res, sg') → jg_ (tm_j S0 sg0, tm_j S0 sg', .inl (some (.int res))) kX8_empty 9 [(0, .ref (tm_a 0)), (1, .int v2), (2, .int v3)] [] (tm_j S0 S4) := by
  intro n
  induction n with
  | zero =>
    intro v2 v3 S4 hf
    exact so_no hf
  | succ n ih =>
    intro v2 v3 S4 hf
    rw [LX8_empty_9] at hf
    refine jr_iload_n dX8_empty_9 rfl rfl ?_
    refine jr_aload_n dX8_empty_10 rfl rfl jv_rr ?_
    refine tr_getR (c := 4) hT (List.mem_of_getElem? (i := 3) rfl) fl_X8_23_23 dX8_empty_11 ?_
    refine jr_iconst dX8_empty_14 ic_0 ?_
    obtain ⟨g5, hf⟩ := so_gdE hf
    refine tr_iaload hT (show tm_k 4 = 50 from rfl) rfl (so_inE g5) dX8_empty_15 ?_
    refine jr_icmp_ge (tgt := 48) dX8_empty_16 rfl (fun c6 => ?_) (fun c6 => ?_)
    · have hf := so_t c6 hf
      refine jr_iload_n dX8_empty_48 rfl rfl ?_
      obtain ⟨rfl, rfl⟩ := so_e2 hf
      exact jr_iret rfl rfl dX8_empty_49
    · have hf := so_f c6 hf
      refine jr_iload_n dX8_empty_19 rfl rfl ?_
      refine jr_aload_n dX8_empty_20 rfl rfl jv_rr ?_
      refine jr_aload_n dX8_empty_21 rfl rfl jv_rr ?_
      refine tr_getR (c := 468) hT (List.mem_of_getElem? (i := 19) rfl) fl_X8_73_23 dX8_empty_22 ?_
      refine jr_iload_n dX8_empty_25 rfl rfl ?_
      obtain ⟨r8, h7, hf⟩ := so_b hf
      refine jr_callM (st := [.int v2]) lk_X8_293_23 (wX8_pianoIn 468 v3 hT S4 (show tm_k 468 = 50 from rfl) h7) tm_k23 rfl rfl rfl (so_le rfl) (so_le rfl) dX8_empty_26 ?_
      refine jr_iconst dX8_empty_29 ic_m1 ?_
      refine so_jE hf (fun J => ∀ (v9 : Int32), J v9 = some (res, sg') → jg_ (tm_j S0 sg0, tm_j S0 sg', .inl (some (.int res))) kX8_empty 40 [(0, .ref (tm_a 0)), (2, .int v3)] [.int v9, .int v2] (tm_j S0 S4)) (fun v9 hf => ?_) (fun J10 hJ10 hf => ?_)
      · refine jr_ior dX8_empty_40 ?_
        refine jr_istore_n (lv' := [(0, .ref (tm_a 0)), (1, .int (v2 ||| v9)), (2, .int v3)]) dX8_empty_41 rfl (so_le rfl) rfl ?_
        refine jr_iinc (v := v3 + (1 : Int32)) (lv' := [(0, .ref (tm_a 0)), (1, .int (v2 ||| v9)), (2, .int (v3 + (1 : Int32)))]) dX8_empty_42 rfl rfl (so_le rfl) rfl ?_
        refine jr_goto (tgt := 9) dX8_empty_45 rfl ?_
        exact ih (v2 ||| v9) (v3 + (1 : Int32)) S4 hf
      · refine jr_icmp_ne (tgt := 39) dX8_empty_30 rfl (fun c11 => ?_) (fun c11 => ?_)
        · have hf := so_f c11 hf
          refine jr_iconst dX8_empty_39 ic_0 ?_
          refine jr_sub [0, 2] rfl ?_
          exact hJ10 (0 : Int32) hf
        · have hf := so_t c11 hf
          refine jr_iconst dX8_empty_33 ic_1 ?_
          refine jr_iload_n dX8_empty_34 rfl rfl ?_
          refine jr_ishl dX8_empty_35 ?_
          refine jr_goto (tgt := 40) dX8_empty_36 rfl ?_
          refine jr_sub [0, 2] rfl ?_
          exact hJ10 ((1 : Int32) <<< (v3 &&& 31)) hf
def fX8_empty  (sg : tm_S) : Option (Int32 × tm_S) :=
  tm_let (tm_up sg 0 0 (0 : Int32)) fun S1 =>
  LX8_empty_9 so_N (0 : Int32) (0 : Int32) S1
set_option maxHeartbeats 4000000 in
set_option maxRecDepth 100000 in
theorem wX8_empty {res : Int32} {sg' : tm_S} {S0 : so_St}   (hT : tm_Sh S0) (sg : tm_S)  (hf : fX8_empty sg = some (res, sg')) : jx_Sp 1 yX8_empty (ws_ yX8_empty cX8_empty 3 (Option.some Jvm.ClassFile.FieldType.int)) [.ref (tm_a 0)] (tm_j S0 sg) (.inl (some (.int res))) (tm_j S0 sg') := by
  refine jx_of (plainFor_of_name (by decide)) (so_le rfl) ?_
  show jg_ ((tm_j S0 sg), (tm_j S0 sg'), .inl (some (.int res))) kX8_empty 0 [(0, .ref (tm_a 0))] [] (tm_j S0 sg)
  unfold fX8_empty at hf
  refine jr_aload_n dX8_empty_0 rfl rfl jv_rr ?_
  refine jr_iconst dX8_empty_1 ic_0 ?_
  refine tr_putI fp_X8_106_23 dX8_empty_2 ?_
  refine tm_let_e hf (fun S1 hf => ?_)
  refine jr_iconst dX8_empty_5 ic_0 ?_
  refine jr_istore_n (lv' := [(0, .ref (tm_a 0)), (1, .int (0 : Int32))]) dX8_empty_6 rfl (so_le rfl) rfl ?_
  refine jr_iconst dX8_empty_7 ic_0 ?_
  refine jr_istore_n (lv' := [(0, .ref (tm_a 0)), (1, .int (0 : Int32)), (2, .int (0 : Int32))]) dX8_empty_8 rfl (so_le rfl) rfl ?_
  refine wX8_empty_9 hT so_N (0 : Int32) (0 : Int32) S1 hf

/- X8_margin -/
abbrev kX8_margin : jx_K := (cX8_margin, 5, RX8, 2, (Option.some Jvm.ClassFile.FieldType.int), "margin", [])
def LX8_margin_44 (f1 : Int32) (f2 : Int32) (k83 : Int32 → tm_S → Option (Int32 × tm_S)) : Nat → Int32 → Int32 → tm_S → Option (Int32 × tm_S)
  | 0, _, _, _ => none
  | n + 1, v12, v13, S14 =>
    if (10 : Int32) ≤ v13 then
    (k83 v12 S14)
    else
    (so_j (κ := Int32 → Option (Int32 × tm_S)) (ρ := Option (Int32 × tm_S)) (fun (v16 : Int32) =>
    LX8_margin_44 f1 f2 k83 n v16 (v13 + (1 : Int32)) S14)
    (fun J17 =>
    if v13 = f2 then
    (J17 v12)
    else
    ((fX8_amount 468 f1 v13 S14).bind fun r20 =>
    J17 (fX8_more v12 r20))))
set_option maxHeartbeats 4000000 in
set_option maxRecDepth 100000 in
theorem wX8_margin_44 {res : Int32} {sg' : tm_S} {S0 : so_St} {sg0 : tm_S}   (f1 : Int32) (f2 : Int32) (hT : tm_Sh S0)   (k83 : Int32 → tm_S → Option (Int32 × tm_S)) (h83 : ∀ (v21 : Int32) (S22 : tm_S), k83 v21 S22 = some (res, sg') → jg_ (tm_j S0 sg0, tm_j S0 sg', .inl (some (.int res))) kX8_margin 83 [(0, .ref (tm_a 0)), (1, .int f1), (2, .int f2), (3, .int v21)] [] (tm_j S0 S22)) : ∀ (n : Nat) (v12 : Int32) (v13 : Int32) (S14 : tm_S), LX8_margin_44 f1 f2 k83 n v12 v13 S14 = some (res, sg') → jg_ (tm_j S0 sg0, tm_j S0 sg', .inl (some (.int res))) kX8_margin 44 [(0, .ref (tm_a 0)), (1, .int f1), (2, .int f2), (3, .int v12), (4, .int v13)] [] (tm_j S0 S14) := by
  intro n
  induction n with
  | zero =>
    intro v12 v13 S14 hf
    exact so_no hf
  | succ n ih =>
    intro v12 v13 S14 hf
    rw [LX8_margin_44] at hf
    refine jr_iload dX8_margin_44 rfl ?_
    refine jr_bipush dX8_margin_46 bp_10 ?_
    refine jr_icmp_ge (tgt := 83) dX8_margin_48 rfl (fun c15 => ?_) (fun c15 => ?_)
    · have hf := so_t c15 hf
      refine jr_sub [0, 1, 2, 3] rfl ?_
      exact h83 v12 S14 hf
    · have hf := so_f c15 hf
      refine jr_iload dX8_margin_51 rfl ?_
      refine jr_iload_n dX8_margin_53 rfl rfl ?_
      refine so_jE hf (fun J => ∀ (v16 : Int32), J v16 = some (res, sg') → jg_ (tm_j S0 sg0, tm_j S0 sg', .inl (some (.int res))) kX8_margin 76 [(0, .ref (tm_a 0)), (1, .int f1), (2, .int f2), (4, .int v13)] [.int v16] (tm_j S0 S14)) (fun v16 hf => ?_) (fun J17 hJ17 hf => ?_)
      · refine jr_istore_n (lv' := [(0, .ref (tm_a 0)), (1, .int f1), (2, .int f2), (3, .int v16), (4, .int v13)]) dX8_margin_76 rfl (so_le rfl) rfl ?_
        refine jr_iinc (v := v13 + (1 : Int32)) (lv' := [(0, .ref (tm_a 0)), (1, .int f1), (2, .int f2), (3, .int v16), (4, .int (v13 + (1 : Int32)))]) dX8_margin_77 rfl rfl (so_le rfl) rfl ?_
        refine jr_goto (tgt := 44) dX8_margin_80 rfl ?_
        exact ih v16 (v13 + (1 : Int32)) S14 hf
      · refine jr_icmp_ne (tgt := 61) dX8_margin_54 rfl (fun c18 => ?_) (fun c18 => ?_)
        · have hf := so_f c18 hf
          refine jr_iload_n dX8_margin_61 rfl rfl ?_
          refine jr_aload_n dX8_margin_62 rfl rfl jv_rr ?_
          refine jr_aload_n dX8_margin_63 rfl rfl jv_rr ?_
          refine tr_getR (c := 468) hT (List.mem_of_getElem? (i := 19) rfl) fl_X8_73_23 dX8_margin_64 ?_
          refine jr_iload_n dX8_margin_67 rfl rfl ?_
          refine jr_iload dX8_margin_68 rfl ?_
          obtain ⟨r20, h19, hf⟩ := so_b hf
          refine jr_callM (st := [.int v12]) lk_X8_323_23 (wX8_amount 468 f1 v13 hT S14 (show tm_k 468 = 50 from rfl) h19) tm_k23 rfl rfl rfl (so_le rfl) (so_le rfl) dX8_margin_70 ?_
          refine jr_call (st := []) lk_X8_252 (wX8_more v12 r20 hT S14 rfl) jk_r0 rfl rfl (so_le rfl) (so_le rfl) dX8_margin_73 ?_
          refine jr_sub [0, 1, 2, 4] rfl ?_
          exact hJ17 (fX8_more v12 r20) hf
        · have hf := so_t c18 hf
          refine jr_iload_n dX8_margin_57 rfl rfl ?_
          refine jr_goto (tgt := 76) dX8_margin_58 rfl ?_
          refine jr_sub [0, 1, 2, 4] rfl ?_
          exact hJ17 v12 hf
def fX8_margin (a1 : Int32) (sg : tm_S) : Option (Int32 × tm_S) :=
  tm_let (tm_up sg 0 0 (0 : Int32)) fun S1 =>
  (fX8_isHouse a1 S1).bind fun r3 =>
  so_j (κ := Int32 → Option (Int32 × tm_S)) (ρ := Option (Int32 × tm_S)) (fun (v4 : Int32) =>
  tm_b2 (fX8_bad v4 (1 : Int32) (0 : Int32) S1) fun r7 S8 =>
  if r7 = (0 : Int32) then
  ((fX8_thingOf 468 a1 S8).bind fun r11 =>
  LX8_margin_44 a1 r11 (fun (v23 : Int32) (S24 : tm_S) =>
  (fX8_amount 468 a1 r11 S24).bind fun r26 =>
  some ((r26 - v23), S24)) so_N (0 : Int32) (0 : Int32) S8)
  else
  (some ((0 : Int32), S8)))
  (fun J5 =>
  if r3 = (0 : Int32) then
  (J5 (1 : Int32))
  else
  (J5 (0 : Int32)))
set_option maxHeartbeats 4000000 in
set_option maxRecDepth 100000 in
theorem wX8_margin {res : Int32} {sg' : tm_S} {S0 : so_St}  (a1 : Int32) (hT : tm_Sh S0) (sg : tm_S)  (hf : fX8_margin a1 sg = some (res, sg')) : jx_Sp 2 yX8_margin (ws_ yX8_margin cX8_margin 5 (Option.some Jvm.ClassFile.FieldType.int)) [.ref (tm_a 0), .int a1] (tm_j S0 sg) (.inl (some (.int res))) (tm_j S0 sg') := by
  refine jx_of (plainFor_of_name (by decide)) (so_le rfl) ?_
  show jg_ ((tm_j S0 sg), (tm_j S0 sg'), .inl (some (.int res))) kX8_margin 0 [(0, .ref (tm_a 0)), (1, .int a1)] [] (tm_j S0 sg)
  unfold fX8_margin at hf
  refine jr_aload_n dX8_margin_0 rfl rfl jv_rr ?_
  refine jr_iconst dX8_margin_1 ic_0 ?_
  refine tr_putI fp_X8_106_23 dX8_margin_2 ?_
  refine tm_let_e hf (fun S1 hf => ?_)
  refine jr_aload_n dX8_margin_5 rfl rfl jv_rr ?_
  refine jr_aload_n dX8_margin_6 rfl rfl jv_rr ?_
  refine jr_iload_n dX8_margin_7 rfl rfl ?_
  obtain ⟨r3, h2, hf⟩ := so_b hf
  refine jr_callM (st := [.ref (tm_a 0)]) lk_X8_339_23 (wX8_isHouse a1 hT S1 h2) tm_k23 rfl rfl rfl (so_le rfl) (so_le rfl) dX8_margin_8 ?_
  refine so_jE hf (fun J => ∀ (v4 : Int32), J v4 = some (res, sg') → jg_ (tm_j S0 sg, tm_j S0 sg', .inl (some (.int res))) kX8_margin 19 [(0, .ref (tm_a 0)), (1, .int a1)] [.int v4, .ref (tm_a 0)] (tm_j S0 S1)) (fun v4 hf => ?_) (fun J5 hJ5 hf => ?_)
  · refine jr_iconst dX8_margin_19 ic_1 ?_
    refine jr_iconst dX8_margin_20 ic_0 ?_
    obtain ⟨r7, S8, h6, hf⟩ := tm_b2E hf
    refine jr_callM (st := []) lk_X8_189_23 (wX8_bad v4 (1 : Int32) (0 : Int32) hT S1 h6) tm_k23 rfl rfl rfl (so_le rfl) (so_le rfl) dX8_margin_21 ?_
    refine jr_if_eq (tgt := 29) dX8_margin_24 rfl (fun c9 => ?_) (fun c9 => ?_)
    · have hf := so_t c9 hf
      refine jr_aload_n dX8_margin_29 rfl rfl jv_rr ?_
      refine jr_aload_n dX8_margin_30 rfl rfl jv_rr ?_
      refine tr_getR (c := 468) hT (List.mem_of_getElem? (i := 19) rfl) fl_X8_73_23 dX8_margin_31 ?_
      refine jr_iload_n dX8_margin_34 rfl rfl ?_
      obtain ⟨r11, h10, hf⟩ := so_b hf
      refine jr_callM (st := []) lk_X8_326_23 (wX8_thingOf 468 a1 hT S8 (show tm_k 468 = 50 from rfl) h10) tm_k23 rfl rfl rfl (so_le rfl) (so_le rfl) dX8_margin_35 ?_
      refine jr_istore_n (lv' := [(0, .ref (tm_a 0)), (1, .int a1), (2, .int r11)]) dX8_margin_38 rfl (so_le rfl) rfl ?_
      refine jr_iconst dX8_margin_39 ic_0 ?_
      refine jr_istore_n (lv' := [(0, .ref (tm_a 0)), (1, .int a1), (2, .int r11), (3, .int (0 : Int32))]) dX8_margin_40 rfl (so_le rfl) rfl ?_
      refine jr_iconst dX8_margin_41 ic_0 ?_
      refine jr_istore (lv' := [(0, .ref (tm_a 0)), (1, .int a1), (2, .int r11), (3, .int (0 : Int32)), (4, .int (0 : Int32))]) dX8_margin_42 (so_le rfl) rfl ?_
      refine wX8_margin_44 a1 r11 hT _ (fun v23 S24 hf => ?_) so_N (0 : Int32) (0 : Int32) S8 hf
      refine jr_aload_n dX8_margin_83 rfl rfl jv_rr ?_
      refine jr_aload_n dX8_margin_84 rfl rfl jv_rr ?_
      refine tr_getR (c := 468) hT (List.mem_of_getElem? (i := 19) rfl) fl_X8_73_23 dX8_margin_85 ?_
      refine jr_iload_n dX8_margin_88 rfl rfl ?_
      refine jr_iload_n dX8_margin_89 rfl rfl ?_
      obtain ⟨r26, h25, hf⟩ := so_b hf
      refine jr_callM (st := []) lk_X8_323_23 (wX8_amount 468 a1 r11 hT S24 (show tm_k 468 = 50 from rfl) h25) tm_k23 rfl rfl rfl (so_le rfl) (so_le rfl) dX8_margin_90 ?_
      refine jr_iload_n dX8_margin_93 rfl rfl ?_
      refine jr_isub dX8_margin_94 ?_
      obtain ⟨rfl, rfl⟩ := so_e2 hf
      exact jr_iret rfl rfl dX8_margin_95
    · have hf := so_f c9 hf
      refine jr_iconst dX8_margin_27 ic_0 ?_
      obtain ⟨rfl, rfl⟩ := so_e2 hf
      exact jr_iret rfl rfl dX8_margin_28
  · refine jr_if_ne (tgt := 18) dX8_margin_11 rfl (fun c27 => ?_) (fun c27 => ?_)
    · have hf := so_f c27 hf
      refine jr_iconst dX8_margin_18 ic_0 ?_
      exact hJ5 (0 : Int32) hf
    · have hf := so_t c27 hf
      refine jr_iconst dX8_margin_14 ic_1 ?_
      refine jr_goto (tgt := 19) dX8_margin_15 rfl ?_
      exact hJ5 (1 : Int32) hf

/- X8_changedIn -/
abbrev kX8_changedIn : jx_K := (cX8_changedIn, 4, RX8, 2, (Option.some Jvm.ClassFile.FieldType.int), "changedIn", [])
def LX8_changedIn_4 (f1 : Nat) (sg : tm_S) : Nat → Int32 → Int32 → Option Int32
  | 0, _, _ => none
  | n + 1, v1, v2 =>
    so_gd (so_in (0 : Int32) 4) fun _ =>
    if (sg 4 (0 : Int32).toNatClampNeg) ≤ v2 then
    (some v1)
    else
    ((fX8_thingOf f1 v2 sg).bind fun r6 =>
    so_gd (so_in v2 8) fun _ =>
    so_j (κ := Int32 → Option Int32) (ρ := Option Int32) (fun (v8 : Int32) =>
    LX8_changedIn_4 f1 sg n (v1 ||| v8) (v2 + (1 : Int32)))
    (fun J9 =>
    if r6 = (sg 6 v2.toNatClampNeg) then
    (J9 (0 : Int32))
    else
    (J9 ((1 : Int32) <<< (v2 &&& 31)))))
set_option maxHeartbeats 4000000 in
set_option maxRecDepth 100000 in
theorem wX8_changedIn_4 {res : Int32} {S0 : so_St}   (f1 : Nat) (hT : tm_Sh S0) (sg : tm_S) (k_f1 : tm_k f1 = 50) : ∀ (n : Nat) (v1 : Int32) (v2 : Int32), LX8_changedIn_4 f1 sg n v1 v2 = some res → jg_ (tm_j S0 sg, tm_j S0 sg, .inl (some (.int res))) kX8_changedIn 4 [(0, .ref (tm_a 0)), (1, .ref (tm_a f1)), (2, .int v1), (3, .int v2)] [] (tm_j S0 sg) := by
  intro n
  induction n with
  | zero =>
    intro v1 v2 hf
    exact so_no hf
  | succ n ih =>
    intro v1 v2 hf
    rw [LX8_changedIn_4] at hf
    refine jr_iload_n dX8_changedIn_4 rfl rfl ?_
    refine jr_aload_n dX8_changedIn_5 rfl rfl jv_rr ?_
    refine tr_getR (c := 4) hT (List.mem_of_getElem? (i := 3) rfl) fl_X8_23_23 dX8_changedIn_6 ?_
    refine jr_iconst dX8_changedIn_9 ic_0 ?_
    obtain ⟨g3, hf⟩ := so_gdE hf
    refine tr_iaload hT (show tm_k 4 = 50 from rfl) rfl (so_inE g3) dX8_changedIn_10 ?_
    refine jr_icmp_ge (tgt := 45) dX8_changedIn_11 rfl (fun c4 => ?_) (fun c4 => ?_)
    · have hf := so_t c4 hf
      refine jr_iload_n dX8_changedIn_45 rfl rfl ?_
      obtain rfl := so_e1 hf
      exact jr_iret rfl rfl dX8_changedIn_46
    · have hf := so_f c4 hf
      refine jr_iload_n dX8_changedIn_14 rfl rfl ?_
      refine jr_aload_n dX8_changedIn_15 rfl rfl jv_rr ?_
      refine jr_aload_n dX8_changedIn_16 rfl rfl jv_rr ?_
      refine jr_iload_n dX8_changedIn_17 rfl rfl ?_
      obtain ⟨r6, h5, hf⟩ := so_b hf
      refine jr_callM (st := [.int v1]) lk_X8_326_23 (wX8_thingOf f1 v2 hT sg k_f1 h5) tm_k23 rfl rfl rfl (so_le rfl) (so_le rfl) dX8_changedIn_18 ?_
      refine jr_aload_n dX8_changedIn_21 rfl rfl jv_rr ?_
      refine tr_getR (c := 6) hT (List.mem_of_getElem? (i := 5) rfl) fl_X8_29_23 dX8_changedIn_22 ?_
      refine jr_iload_n dX8_changedIn_25 rfl rfl ?_
      obtain ⟨g7, hf⟩ := so_gdE hf
      refine tr_iaload hT (show tm_k 6 = 50 from rfl) rfl (so_inE g7) dX8_changedIn_26 ?_
      refine so_jE hf (fun J => ∀ (v8 : Int32), J v8 = some res → jg_ (tm_j S0 sg, tm_j S0 sg, .inl (some (.int res))) kX8_changedIn 37 [(0, .ref (tm_a 0)), (1, .ref (tm_a f1)), (3, .int v2)] [.int v8, .int v1] (tm_j S0 sg)) (fun v8 hf => ?_) (fun J9 hJ9 hf => ?_)
      · refine jr_ior dX8_changedIn_37 ?_
        refine jr_istore_n (lv' := [(0, .ref (tm_a 0)), (1, .ref (tm_a f1)), (2, .int (v1 ||| v8)), (3, .int v2)]) dX8_changedIn_38 rfl (so_le rfl) rfl ?_
        refine jr_iinc (v := v2 + (1 : Int32)) (lv' := [(0, .ref (tm_a 0)), (1, .ref (tm_a f1)), (2, .int (v1 ||| v8)), (3, .int (v2 + (1 : Int32)))]) dX8_changedIn_39 rfl rfl (so_le rfl) rfl ?_
        refine jr_goto (tgt := 4) dX8_changedIn_42 rfl ?_
        exact ih (v1 ||| v8) (v2 + (1 : Int32)) hf
      · refine jr_icmp_eq (tgt := 36) dX8_changedIn_27 rfl (fun c10 => ?_) (fun c10 => ?_)
        · have hf := so_t c10 hf
          refine jr_iconst dX8_changedIn_36 ic_0 ?_
          refine jr_sub [0, 1, 3] rfl ?_
          exact hJ9 (0 : Int32) hf
        · have hf := so_f c10 hf
          refine jr_iconst dX8_changedIn_30 ic_1 ?_
          refine jr_iload_n dX8_changedIn_31 rfl rfl ?_
          refine jr_ishl dX8_changedIn_32 ?_
          refine jr_goto (tgt := 37) dX8_changedIn_33 rfl ?_
          refine jr_sub [0, 1, 3] rfl ?_
          exact hJ9 ((1 : Int32) <<< (v2 &&& 31)) hf
def fX8_changedIn (a1 : Nat) (sg : tm_S) : Option Int32 :=
  LX8_changedIn_4 a1 sg so_N (0 : Int32) (0 : Int32)
set_option maxHeartbeats 4000000 in
set_option maxRecDepth 100000 in
theorem wX8_changedIn {res : Int32} {S0 : so_St}  (a1 : Nat) (hT : tm_Sh S0) (sg : tm_S) (k_a1 : tm_k a1 = 50) (hf : fX8_changedIn a1 sg = some res) : jx_Sp 2 yX8_changedIn (ws_ yX8_changedIn cX8_changedIn 4 (Option.some Jvm.ClassFile.FieldType.int)) [.ref (tm_a 0), .ref (tm_a a1)] (tm_j S0 sg) (.inl (some (.int res))) (tm_j S0 sg) := by
  refine jx_of (plainFor_of_name (by decide)) (so_le rfl) ?_
  show jg_ ((tm_j S0 sg), (tm_j S0 sg), .inl (some (.int res))) kX8_changedIn 0 [(0, .ref (tm_a 0)), (1, .ref (tm_a a1))] [] (tm_j S0 sg)
  unfold fX8_changedIn at hf
  refine jr_iconst dX8_changedIn_0 ic_0 ?_
  refine jr_istore_n (lv' := [(0, .ref (tm_a 0)), (1, .ref (tm_a a1)), (2, .int (0 : Int32))]) dX8_changedIn_1 rfl (so_le rfl) rfl ?_
  refine jr_iconst dX8_changedIn_2 ic_0 ?_
  refine jr_istore_n (lv' := [(0, .ref (tm_a 0)), (1, .ref (tm_a a1)), (2, .int (0 : Int32)), (3, .int (0 : Int32))]) dX8_changedIn_3 rfl (so_le rfl) rfl ?_
  refine wX8_changedIn_4 a1 hT sg k_a1 so_N (0 : Int32) (0 : Int32) hf

/- X8_changed -/
abbrev kX8_changed : jx_K := (cX8_changed, 1, RX8, 3, (Option.some Jvm.ClassFile.FieldType.int), "changed", [])
def fX8_changed  (sg : tm_S) : Option (Int32 × tm_S) :=
  tm_let (tm_up sg 0 0 (0 : Int32)) fun S1 =>
  (fX8_changedIn 468 S1).bind fun r3 =>
  some (r3, S1)
set_option maxHeartbeats 4000000 in
set_option maxRecDepth 100000 in
theorem wX8_changed {res : Int32} {sg' : tm_S} {S0 : so_St}   (hT : tm_Sh S0) (sg : tm_S)  (hf : fX8_changed sg = some (res, sg')) : jx_Sp 3 yX8_changed (ws_ yX8_changed cX8_changed 1 (Option.some Jvm.ClassFile.FieldType.int)) [.ref (tm_a 0)] (tm_j S0 sg) (.inl (some (.int res))) (tm_j S0 sg') := by
  refine jx_of (plainFor_of_name (by decide)) (so_le rfl) ?_
  show jg_ ((tm_j S0 sg), (tm_j S0 sg'), .inl (some (.int res))) kX8_changed 0 [(0, .ref (tm_a 0))] [] (tm_j S0 sg)
  unfold fX8_changed at hf
  refine jr_aload_n dX8_changed_0 rfl rfl jv_rr ?_
  refine jr_iconst dX8_changed_1 ic_0 ?_
  refine tr_putI fp_X8_106_23 dX8_changed_2 ?_
  refine tm_let_e hf (fun S1 hf => ?_)
  refine jr_aload_n dX8_changed_5 rfl rfl jv_rr ?_
  refine jr_aload_n dX8_changed_6 rfl rfl jv_rr ?_
  refine tr_getR (c := 468) hT (List.mem_of_getElem? (i := 19) rfl) fl_X8_73_23 dX8_changed_7 ?_
  obtain ⟨r3, h2, hf⟩ := so_b hf
  refine jr_callM (st := []) lk_X8_383_23 (wX8_changedIn 468 hT S1 (show tm_k 468 = 50 from rfl) h2) tm_k23 rfl rfl rfl (so_le rfl) (so_le rfl) dX8_changed_10 ?_
  obtain ⟨rfl, rfl⟩ := so_e2 hf
  exact jr_iret rfl rfl dX8_changed_13

/- X8_isYear -/
abbrev kX8_isYear : jx_K := (cX8_isYear, 2, RX8, 1, (Option.some Jvm.ClassFile.FieldType.boolean), "isYear", [])
def fX8_isYear (a0 : Int32) (a1 : Int32) : Int32 :=
  if (fX8_in a0 (1 : Int32) (96 : Int32)) = (0 : Int32) then
  ((0 : Int32))
  else
  (if (fX8_in a1 (0 : Int32) (16 : Int32)) = (0 : Int32) then
  ((0 : Int32))
  else
  ((1 : Int32)))
set_option maxHeartbeats 4000000 in
set_option maxRecDepth 100000 in
theorem wX8_isYear {res : Int32} {S0 : so_St}  (a0 : Int32) (a1 : Int32) (hT : tm_Sh S0) (sg : tm_S)  (hf : fX8_isYear a0 a1 = res) : jx_Sp 1 yX8_isYear (ws_ yX8_isYear cX8_isYear 2 (Option.some Jvm.ClassFile.FieldType.boolean)) [.int a0, .int a1] (tm_j S0 sg) (.inl (some (.int res))) (tm_j S0 sg) := by
  refine jx_of (plainFor_of_name (by decide)) (so_le rfl) ?_
  show jg_ ((tm_j S0 sg), (tm_j S0 sg), .inl (some (.int res))) kX8_isYear 0 [(0, .int a0), (1, .int a1)] [] (tm_j S0 sg)
  unfold fX8_isYear at hf
  refine jr_iload_n dX8_isYear_0 rfl rfl ?_
  refine jr_iconst dX8_isYear_1 ic_1 ?_
  refine jr_bipush dX8_isYear_2 bp_96 ?_
  refine jr_call (st := []) lk_X8_140 (wX8_in a0 (1 : Int32) (96 : Int32) hT sg rfl) jk_r0 rfl rfl (so_le rfl) (so_le rfl) dX8_isYear_4 ?_
  refine jr_if_eq (tgt := 24) dX8_isYear_7 rfl (fun c1 => ?_) (fun c1 => ?_)
  · have hf := so_t c1 hf
    refine jr_iconst dX8_isYear_24 ic_0 ?_
    obtain rfl := hf
    exact jr_iret rfl rfl dX8_isYear_25
  · have hf := so_f c1 hf
    refine jr_iload_n dX8_isYear_10 rfl rfl ?_
    refine jr_iconst dX8_isYear_11 ic_0 ?_
    refine jr_bipush dX8_isYear_12 bp_16 ?_
    refine jr_call (st := []) lk_X8_140 (wX8_in a1 (0 : Int32) (16 : Int32) hT sg rfl) jk_r0 rfl rfl (so_le rfl) (so_le rfl) dX8_isYear_14 ?_
    refine jr_if_eq (tgt := 24) dX8_isYear_17 rfl (fun c2 => ?_) (fun c2 => ?_)
    · have hf := so_t c2 hf
      refine jr_iconst dX8_isYear_24 ic_0 ?_
      obtain rfl := hf
      exact jr_iret rfl rfl dX8_isYear_25
    · have hf := so_f c2 hf
      refine jr_iconst dX8_isYear_20 ic_1 ?_
      refine jr_goto (tgt := 25) dX8_isYear_21 rfl ?_
      obtain rfl := hf
      exact jr_iret rfl rfl dX8_isYear_25

/- X8_draw -/
abbrev kX8_draw : jx_K := (cX8_draw, 2, RX8, 0, (Option.some Jvm.ClassFile.FieldType.int), "draw", [])
def fX8_draw (a1 : Int32) (sg : tm_S) : Option (Int32 × tm_S) :=
  tm_let (tm_up sg 0 48 (((sg 0 48) * (1103515245 : Int32)) + (12345 : Int32))) fun S1 =>
  so_gd (so_ne0 a1) fun _ =>
  some (((((S1 0 48) >>> ((16 : Int32) &&& 31)) &&& (32767 : Int32)) - (((S1 0 48) >>> ((16 : Int32) &&& 31)) &&& (32767 : Int32)) / a1 * a1), S1)
set_option maxHeartbeats 4000000 in
set_option maxRecDepth 100000 in
theorem wX8_draw {res : Int32} {sg' : tm_S} {S0 : so_St}  (a1 : Int32) (hT : tm_Sh S0) (sg : tm_S)  (hf : fX8_draw a1 sg = some (res, sg')) : jx_Sp 0 yX8_draw (ws_ yX8_draw cX8_draw 2 (Option.some Jvm.ClassFile.FieldType.int)) [.ref (tm_a 0), .int a1] (tm_j S0 sg) (.inl (some (.int res))) (tm_j S0 sg') := by
  refine jx_of (plainFor_of_name (by decide)) (so_le rfl) ?_
  show jg_ ((tm_j S0 sg), (tm_j S0 sg'), .inl (some (.int res))) kX8_draw 0 [(0, .ref (tm_a 0)), (1, .int a1)] [] (tm_j S0 sg)
  unfold fX8_draw at hf
  refine jr_aload_n dX8_draw_0 rfl rfl jv_rr ?_
  refine jr_aload_n dX8_draw_1 rfl rfl jv_rr ?_
  refine tr_getI fl_X8_386_23 dX8_draw_2 ?_
  refine jr_ldcwI q2507 dX8_draw_5 ?_
  refine jr_imul dX8_draw_8 ?_
  refine jr_sipush dX8_draw_9 sp_12345 ?_
  refine jr_iadd dX8_draw_12 ?_
  refine tr_putI fp_X8_386_23 dX8_draw_13 ?_
  refine tm_let_e hf (fun S1 hf => ?_)
  refine jr_aload_n dX8_draw_16 rfl rfl jv_rr ?_
  refine tr_getI fl_X8_386_23 dX8_draw_17 ?_
  refine jr_bipush dX8_draw_20 bp_16 ?_
  refine jr_ishr dX8_draw_22 ?_
  refine jr_sipush dX8_draw_23 sp_32767 ?_
  refine jr_iand dX8_draw_26 ?_
  refine jr_iload_n dX8_draw_27 rfl rfl ?_
  obtain ⟨g2, hf⟩ := so_gdE hf
  refine jr_irem dX8_draw_28 (so_ne0E g2) ?_
  obtain ⟨rfl, rfl⟩ := so_e2 hf
  exact jr_iret rfl rfl dX8_draw_29

/- X8_yearBy -/
abbrev kX8_yearBy : jx_K := (cX8_yearBy, 6, RX8, 8, (Option.none : Option Jvm.ClassFile.FieldType), "yearBy", [])
def LX8_yearBy_24 (f2 : Int32) (f3 : Int32) : Nat → Int32 → tm_S → Option tm_S
  | 0, _, _ => none
  | n + 1, v6, S7 =>
    if f2 ≤ v6 then
    (some S7)
    else
    (tm_b2 (fX8_draw (16 : Int32) S7) fun r10 S11 =>
    so_j (κ := tm_S → Option tm_S) (ρ := Option tm_S) (fun (S12 : tm_S) =>
    (fX8_dayEnds 469 S12).bind fun S16 =>
    LX8_yearBy_24 f2 f3 n (v6 + (1 : Int32)) S16)
    (fun J13 =>
    if f3 ≤ r10 then
    (J13 S11)
    else
    (so_gd (so_in (2 : Int32) 4) fun _ =>
    if (S11 4 (2 : Int32).toNatClampNeg) ≤ (0 : Int32) then
    (J13 S11)
    else
    (so_gd (so_in (0 : Int32) 4) fun _ =>
    if (S11 4 (0 : Int32).toNatClampNeg) ≤ (0 : Int32) then
    (J13 S11)
    else
    (so_gd (so_in (2 : Int32) 4) fun _ =>
    tm_b2 (fX8_draw (S11 4 (2 : Int32).toNatClampNeg) S11) fun r24 S25 =>
    so_gd (so_in (0 : Int32) 4) fun _ =>
    tm_b2 (fX8_draw (S25 4 (0 : Int32).toNatClampNeg) S25) fun r28 S29 =>
    tm_b2 (fX8_puts2 469 r24 r28 S29) fun r31 S32 =>
    so_j (κ := Int32 → Option tm_S) (ρ := Option tm_S) (fun (v33 : Int32) =>
    tm_let (tm_up S32 0 49 ((S25 0 49) + v33)) fun S35 =>
    J13 S35)
    (fun J34 =>
    if r31 = (0 : Int32) then
    (J34 (0 : Int32))
    else
    (J34 (1 : Int32))))))))
set_option maxHeartbeats 4000000 in
set_option maxRecDepth 100000 in
theorem wX8_yearBy_24 {sg' : tm_S} {S0 : so_St} {sg0 : tm_S}   (f2 : Int32) (f3 : Int32) (hT : tm_Sh S0)   : ∀ (n : Nat) (v6 : Int32) (S7 : tm_S), LX8_yearBy_24 f2 f3 n v6 S7 = some sg' → jg_ (tm_j S0 sg0, tm_j S0 sg', .inl none) kX8_yearBy 24 [(0, .ref (tm_a 0)), (2, .int f2), (3, .int f3), (4, .int v6)] [] (tm_j S0 S7) := by
  intro n
  induction n with
  | zero =>
    intro v6 S7 hf
    exact so_no hf
  | succ n ih =>
    intro v6 S7 hf
    rw [LX8_yearBy_24] at hf
    refine jr_iload dX8_yearBy_24 rfl ?_
    refine jr_iload_n dX8_yearBy_26 rfl rfl ?_
    refine jr_icmp_ge (tgt := 121) dX8_yearBy_27 rfl (fun c8 => ?_) (fun c8 => ?_)
    · have hf := so_t c8 hf
      obtain rfl := so_e1 hf
      exact jr_vret rfl dX8_yearBy_121
    · have hf := so_f c8 hf
      refine jr_aload_n dX8_yearBy_30 rfl rfl jv_rr ?_
      refine jr_bipush dX8_yearBy_31 bp_16 ?_
      obtain ⟨r10, S11, h9, hf⟩ := tm_b2E hf
      refine jr_callM (st := []) lk_X8_393_23 (wX8_draw (16 : Int32) hT S7 h9) tm_k23 rfl rfl rfl (so_le rfl) (so_le rfl) dX8_yearBy_33 ?_
      refine jr_iload_n dX8_yearBy_36 rfl rfl ?_
      refine so_jE hf (fun J => ∀ (S12 : tm_S), J S12 = some sg' → jg_ (tm_j S0 sg0, tm_j S0 sg', .inl none) kX8_yearBy 107 [(0, .ref (tm_a 0)), (2, .int f2), (3, .int f3), (4, .int v6)] [] (tm_j S0 S12)) (fun S12 hf => ?_) (fun J13 hJ13 hf => ?_)
      · refine jr_aload_n dX8_yearBy_107 rfl rfl jv_rr ?_
        refine jr_aload_n dX8_yearBy_108 rfl rfl jv_rr ?_
        refine tr_getR (c := 469) hT (List.mem_of_getElem? (i := 20) rfl) fl_X8_76_23 dX8_yearBy_109 ?_
        obtain ⟨S16, h14, hf⟩ := so_b hf
        refine jr_callM (st := []) lk_X8_302_23 (wX8_dayEnds 469 hT S12 (show tm_k 469 = 50 from rfl) h14) tm_k23 rfl rfl rfl (so_le rfl) (so_le rfl) dX8_yearBy_112 ?_
        refine jr_iinc (v := v6 + (1 : Int32)) (lv' := [(0, .ref (tm_a 0)), (2, .int f2), (3, .int f3), (4, .int (v6 + (1 : Int32)))]) dX8_yearBy_115 rfl rfl (so_le rfl) rfl ?_
        refine jr_goto (tgt := 24) dX8_yearBy_118 rfl ?_
        exact ih (v6 + (1 : Int32)) S16 hf
      · refine jr_icmp_ge (tgt := 107) dX8_yearBy_37 rfl (fun c17 => ?_) (fun c17 => ?_)
        · have hf := so_t c17 hf
          exact hJ13 S11 hf
        · have hf := so_f c17 hf
          refine jr_aload_n dX8_yearBy_40 rfl rfl jv_rr ?_
          refine tr_getR (c := 4) hT (List.mem_of_getElem? (i := 3) rfl) fl_X8_23_23 dX8_yearBy_41 ?_
          refine jr_iconst dX8_yearBy_44 ic_2 ?_
          obtain ⟨g18, hf⟩ := so_gdE hf
          refine tr_iaload hT (show tm_k 4 = 50 from rfl) rfl (so_inE g18) dX8_yearBy_45 ?_
          refine jr_if_le (tgt := 107) dX8_yearBy_46 rfl (fun c19 => ?_) (fun c19 => ?_)
          · have hf := so_t c19 hf
            exact hJ13 S11 hf
          · have hf := so_f c19 hf
            refine jr_aload_n dX8_yearBy_49 rfl rfl jv_rr ?_
            refine tr_getR (c := 4) hT (List.mem_of_getElem? (i := 3) rfl) fl_X8_23_23 dX8_yearBy_50 ?_
            refine jr_iconst dX8_yearBy_53 ic_0 ?_
            obtain ⟨g20, hf⟩ := so_gdE hf
            refine tr_iaload hT (show tm_k 4 = 50 from rfl) rfl (so_inE g20) dX8_yearBy_54 ?_
            refine jr_if_le (tgt := 107) dX8_yearBy_55 rfl (fun c21 => ?_) (fun c21 => ?_)
            · have hf := so_t c21 hf
              exact hJ13 S11 hf
            · have hf := so_f c21 hf
              refine jr_aload_n dX8_yearBy_58 rfl rfl jv_rr ?_
              refine jr_aload_n dX8_yearBy_59 rfl rfl jv_rr ?_
              refine tr_getR (c := 4) hT (List.mem_of_getElem? (i := 3) rfl) fl_X8_23_23 dX8_yearBy_60 ?_
              refine jr_iconst dX8_yearBy_63 ic_2 ?_
              obtain ⟨g22, hf⟩ := so_gdE hf
              refine tr_iaload hT (show tm_k 4 = 50 from rfl) rfl (so_inE g22) dX8_yearBy_64 ?_
              obtain ⟨r24, S25, h23, hf⟩ := tm_b2E hf
              refine jr_callM (st := []) lk_X8_393_23 (wX8_draw (S11 4 (2 : Int32).toNatClampNeg) hT S11 h23) tm_k23 rfl rfl rfl (so_le rfl) (so_le rfl) dX8_yearBy_65 ?_
              refine jr_istore (lv' := [(0, .ref (tm_a 0)), (2, .int f2), (3, .int f3), (4, .int v6), (5, .int r24)]) dX8_yearBy_68 (so_le rfl) rfl ?_
              refine jr_aload_n dX8_yearBy_70 rfl rfl jv_rr ?_
              refine jr_dup dX8_yearBy_71 rfl ?_
              refine tr_getI fl_X8_390_23 dX8_yearBy_72 ?_
              refine jr_aload_n dX8_yearBy_75 rfl rfl jv_rr ?_
              refine jr_aload_n dX8_yearBy_76 rfl rfl jv_rr ?_
              refine tr_getR (c := 469) hT (List.mem_of_getElem? (i := 20) rfl) fl_X8_76_23 dX8_yearBy_77 ?_
              refine jr_iload dX8_yearBy_80 rfl ?_
              refine jr_aload_n dX8_yearBy_82 rfl rfl jv_rr ?_
              refine jr_aload_n dX8_yearBy_83 rfl rfl jv_rr ?_
              refine tr_getR (c := 4) hT (List.mem_of_getElem? (i := 3) rfl) fl_X8_23_23 dX8_yearBy_84 ?_
              refine jr_iconst dX8_yearBy_87 ic_0 ?_
              obtain ⟨g26, hf⟩ := so_gdE hf
              refine tr_iaload hT (show tm_k 4 = 50 from rfl) rfl (so_inE g26) dX8_yearBy_88 ?_
              obtain ⟨r28, S29, h27, hf⟩ := tm_b2E hf
              refine jr_callM (st := [.int r24, .ref (tm_a 469), .ref (tm_a 0), .int (S25 0 49), .ref (tm_a 0)]) lk_X8_393_23 (wX8_draw (S25 4 (0 : Int32).toNatClampNeg) hT S25 h27) tm_k23 rfl rfl rfl (so_le rfl) (so_le rfl) dX8_yearBy_89 ?_
              obtain ⟨r31, S32, h30, hf⟩ := tm_b2E hf
              refine jr_callM (st := [.int (S25 0 49), .ref (tm_a 0)]) lk_X8_299_23 (wX8_puts2 469 r24 r28 hT S29 (show tm_k 469 = 50 from rfl) h30) tm_k23 rfl rfl rfl (so_le rfl) (so_le rfl) dX8_yearBy_92 ?_
              refine so_jE hf (fun J => ∀ (v33 : Int32), J v33 = some sg' → jg_ (tm_j S0 sg0, tm_j S0 sg', .inl none) kX8_yearBy 103 [(0, .ref (tm_a 0)), (2, .int f2), (3, .int f3), (4, .int v6)] [.int v33, .int (S25 0 49), .ref (tm_a 0)] (tm_j S0 S32)) (fun v33 hf => ?_) (fun J34 hJ34 hf => ?_)
              · refine jr_iadd dX8_yearBy_103 ?_
                refine tr_putI fp_X8_390_23 dX8_yearBy_104 ?_
                refine tm_let_e hf (fun S35 hf => ?_)
                exact hJ13 S35 hf
              · refine jr_if_eq (tgt := 102) dX8_yearBy_95 rfl (fun c36 => ?_) (fun c36 => ?_)
                · have hf := so_t c36 hf
                  refine jr_iconst dX8_yearBy_102 ic_0 ?_
                  refine jr_sub [0, 1, 2, 3] rfl ?_
                  exact hJ34 (0 : Int32) hf
                · have hf := so_f c36 hf
                  refine jr_iconst dX8_yearBy_98 ic_1 ?_
                  refine jr_goto (tgt := 103) dX8_yearBy_99 rfl ?_
                  refine jr_sub [0, 1, 2, 3] rfl ?_
                  exact hJ34 (1 : Int32) hf
def fX8_yearBy (a1 : Int32) (a2 : Int32) (a3 : Int32) (sg : tm_S) : Option tm_S :=
  (fX8_copies 468 469 sg).bind fun S3 =>
  tm_let (tm_up S3 0 48 a1) fun S4 =>
  tm_let (tm_up S4 0 49 (0 : Int32)) fun S5 =>
  LX8_yearBy_24 a2 a3 so_N (0 : Int32) S5
set_option maxHeartbeats 4000000 in
set_option maxRecDepth 100000 in
theorem wX8_yearBy {sg' : tm_S} {S0 : so_St}  (a1 : Int32) (a2 : Int32) (a3 : Int32) (hT : tm_Sh S0) (sg : tm_S)  (hf : fX8_yearBy a1 a2 a3 sg = some sg') : jx_Sp 8 yX8_yearBy (ws_ yX8_yearBy cX8_yearBy 6 (Option.none : Option Jvm.ClassFile.FieldType)) [.ref (tm_a 0), .int a1, .int a2, .int a3] (tm_j S0 sg) (.inl none) (tm_j S0 sg') := by
  refine jx_of (plainFor_of_name (by decide)) (so_le rfl) ?_
  show jg_ ((tm_j S0 sg), (tm_j S0 sg'), .inl none) kX8_yearBy 0 [(0, .ref (tm_a 0)), (1, .int a1), (2, .int a2), (3, .int a3)] [] (tm_j S0 sg)
  unfold fX8_yearBy at hf
  refine jr_aload_n dX8_yearBy_0 rfl rfl jv_rr ?_
  refine tr_getR (c := 468) hT (List.mem_of_getElem? (i := 19) rfl) fl_X8_73_23 dX8_yearBy_1 ?_
  refine jr_aload_n dX8_yearBy_4 rfl rfl jv_rr ?_
  refine tr_getR (c := 469) hT (List.mem_of_getElem? (i := 20) rfl) fl_X8_76_23 dX8_yearBy_5 ?_
  obtain ⟨S3, h1, hf⟩ := so_b hf
  refine jr_call (st := []) lk_X8_319 (wX8_copies 468 469 hT sg (show tm_k 468 = 50 from rfl) (show tm_k 469 = 50 from rfl) h1) jk_r0 rfl rfl (so_le rfl) (so_le rfl) dX8_yearBy_8 ?_
  refine jr_aload_n dX8_yearBy_11 rfl rfl jv_rr ?_
  refine jr_iload_n dX8_yearBy_12 rfl rfl ?_
  refine tr_putI fp_X8_386_23 dX8_yearBy_13 ?_
  refine tm_let_e hf (fun S4 hf => ?_)
  refine jr_aload_n dX8_yearBy_16 rfl rfl jv_rr ?_
  refine jr_iconst dX8_yearBy_17 ic_0 ?_
  refine tr_putI fp_X8_390_23 dX8_yearBy_18 ?_
  refine tm_let_e hf (fun S5 hf => ?_)
  refine jr_iconst dX8_yearBy_21 ic_0 ?_
  refine jr_istore (lv' := [(0, .ref (tm_a 0)), (1, .int a1), (2, .int a2), (3, .int a3), (4, .int (0 : Int32))]) dX8_yearBy_22 (so_le rfl) rfl ?_
  refine jr_sub [0, 2, 3, 4] rfl ?_
  refine wX8_yearBy_24 a2 a3 hT so_N (0 : Int32) S5 hf

/- X8_year -/
abbrev kX8_year : jx_K := (cX8_year, 5, RX8, 9, (Option.some Jvm.ClassFile.FieldType.int), "year", [])
def fX8_year (a1 : Int32) (a2 : Int32) (a3 : Int32) (a4 : Int32) (sg : tm_S) : Option (Int32 × tm_S) :=
  tm_let (tm_up sg 0 0 (0 : Int32)) fun S1 =>
  so_j (κ := Int32 → Option (Int32 × tm_S)) (ρ := Option (Int32 × tm_S)) (fun (v2 : Int32) =>
  tm_b2 (fX8_bad v2 (1 : Int32) (1 : Int32) S1) fun r5 S6 =>
  if r5 = (0 : Int32) then
  ((fX8_yearBy a1 a2 a3 S6).bind fun S10 =>
  if a4 = (0 : Int32) then
  ((fX8_changedIn 469 S10).bind fun r13 =>
  some (r13, S10))
  else
  if a4 = (1 : Int32) then
  (some ((S10 0 49), S10))
  else
  if a4 = (2 : Int32) then
  ((fX8_allIn 469 S10).bind fun r17 =>
  some (r17, S10))
  else
  ((fX8_wishedIn 469 S10).bind fun r19 =>
  some (r19, S10)))
  else
  (some ((0 : Int32), S6)))
  (fun J3 =>
  so_j (κ := Unit → Option (Int32 × tm_S)) (ρ := Option (Int32 × tm_S)) (fun (_u : Unit) =>
  J3 (1 : Int32))
  (fun J20 =>
  if (fX8_isYear a2 a3) = (0 : Int32) then
  (J20 ())
  else
  (if (fX8_in a4 (0 : Int32) (3 : Int32)) = (0 : Int32) then
  (J20 ())
  else
  (J3 (0 : Int32)))))
set_option maxHeartbeats 4000000 in
set_option maxRecDepth 100000 in
theorem wX8_year {res : Int32} {sg' : tm_S} {S0 : so_St}  (a1 : Int32) (a2 : Int32) (a3 : Int32) (a4 : Int32) (hT : tm_Sh S0) (sg : tm_S)  (hf : fX8_year a1 a2 a3 a4 sg = some (res, sg')) : jx_Sp 9 yX8_year (ws_ yX8_year cX8_year 5 (Option.some Jvm.ClassFile.FieldType.int)) [.ref (tm_a 0), .int a1, .int a2, .int a3, .int a4] (tm_j S0 sg) (.inl (some (.int res))) (tm_j S0 sg') := by
  refine jx_of (plainFor_of_name (by decide)) (so_le rfl) ?_
  show jg_ ((tm_j S0 sg), (tm_j S0 sg'), .inl (some (.int res))) kX8_year 0 [(0, .ref (tm_a 0)), (1, .int a1), (2, .int a2), (3, .int a3), (4, .int a4)] [] (tm_j S0 sg)
  unfold fX8_year at hf
  refine jr_aload_n dX8_year_0 rfl rfl jv_rr ?_
  refine jr_iconst dX8_year_1 ic_0 ?_
  refine tr_putI fp_X8_106_23 dX8_year_2 ?_
  refine tm_let_e hf (fun S1 hf => ?_)
  refine jr_aload_n dX8_year_5 rfl rfl jv_rr ?_
  refine jr_iload_n dX8_year_6 rfl rfl ?_
  refine jr_iload_n dX8_year_7 rfl rfl ?_
  refine jr_call (st := [.ref (tm_a 0)]) lk_X8_396 (wX8_isYear a2 a3 hT S1 rfl) jk_r0 rfl rfl (so_le rfl) (so_le rfl) dX8_year_8 ?_
  refine so_jE hf (fun J => ∀ (v2 : Int32), J v2 = some (res, sg') → jg_ (tm_j S0 sg, tm_j S0 sg', .inl (some (.int res))) kX8_year 29 [(0, .ref (tm_a 0)), (1, .int a1), (2, .int a2), (3, .int a3), (4, .int a4)] [.int v2, .ref (tm_a 0)] (tm_j S0 S1)) (fun v2 hf => ?_) (fun J3 hJ3 hf => ?_)
  · refine jr_iconst dX8_year_29 ic_1 ?_
    refine jr_iconst dX8_year_30 ic_1 ?_
    obtain ⟨r5, S6, h4, hf⟩ := tm_b2E hf
    refine jr_callM (st := []) lk_X8_189_23 (wX8_bad v2 (1 : Int32) (1 : Int32) hT S1 h4) tm_k23 rfl rfl rfl (so_le rfl) (so_le rfl) dX8_year_31 ?_
    refine jr_if_eq (tgt := 39) dX8_year_34 rfl (fun c7 => ?_) (fun c7 => ?_)
    · have hf := so_t c7 hf
      refine jr_aload_n dX8_year_39 rfl rfl jv_rr ?_
      refine jr_iload_n dX8_year_40 rfl rfl ?_
      refine jr_iload_n dX8_year_41 rfl rfl ?_
      refine jr_iload_n dX8_year_42 rfl rfl ?_
      obtain ⟨S10, h8, hf⟩ := so_b hf
      refine jr_callM (st := []) lk_X8_399_23 (wX8_yearBy a1 a2 a3 hT S6 h8) tm_k23 rfl rfl rfl (so_le rfl) (so_le rfl) dX8_year_43 ?_
      refine jr_iload dX8_year_46 rfl ?_
      by_cases c11 : a4 = (0 : Int32)
      · have hf := so_t c11 hf
        refine jr_tsIn (tgt := 76) (0 : Int32) c11 dX8_year_48 (by decide) (by decide) rfl rfl ?_
        refine jr_aload_n dX8_year_76 rfl rfl jv_rr ?_
        refine jr_aload_n dX8_year_77 rfl rfl jv_rr ?_
        refine tr_getR (c := 469) hT (List.mem_of_getElem? (i := 20) rfl) fl_X8_76_23 dX8_year_78 ?_
        obtain ⟨r13, h12, hf⟩ := so_b hf
        refine jr_callM (st := []) lk_X8_383_23 (wX8_changedIn 469 hT S10 (show tm_k 469 = 50 from rfl) h12) tm_k23 rfl rfl rfl (so_le rfl) (so_le rfl) dX8_year_81 ?_
        obtain ⟨rfl, rfl⟩ := so_e2 hf
        exact jr_iret rfl rfl dX8_year_84
      · have hf := so_f c11 hf
        by_cases c14 : a4 = (1 : Int32)
        · have hf := so_t c14 hf
          refine jr_tsIn (tgt := 85) (1 : Int32) c14 dX8_year_48 (by decide) (by decide) rfl rfl ?_
          refine jr_aload_n dX8_year_85 rfl rfl jv_rr ?_
          refine tr_getI fl_X8_390_23 dX8_year_86 ?_
          obtain ⟨rfl, rfl⟩ := so_e2 hf
          exact jr_iret rfl rfl dX8_year_89
        · have hf := so_f c14 hf
          by_cases c15 : a4 = (2 : Int32)
          · have hf := so_t c15 hf
            refine jr_tsIn (tgt := 90) (2 : Int32) c15 dX8_year_48 (by decide) (by decide) rfl rfl ?_
            refine jr_aload_n dX8_year_90 rfl rfl jv_rr ?_
            refine jr_aload_n dX8_year_91 rfl rfl jv_rr ?_
            refine tr_getR (c := 469) hT (List.mem_of_getElem? (i := 20) rfl) fl_X8_76_23 dX8_year_92 ?_
            obtain ⟨r17, h16, hf⟩ := so_b hf
            refine jr_callM (st := []) lk_X8_336_23 (wX8_allIn 469 hT S10 (show tm_k 469 = 50 from rfl) h16) tm_k23 rfl rfl rfl (so_le rfl) (so_le rfl) dX8_year_95 ?_
            obtain ⟨rfl, rfl⟩ := so_e2 hf
            exact jr_iret rfl rfl dX8_year_98
          · have hf := so_f c15 hf
            refine jr_tsOut (tgt := 99) [(0 : Int32), (1 : Int32), (2 : Int32)] (by decide) (List.forall_mem_cons.mpr ⟨c11, List.forall_mem_cons.mpr ⟨c14, List.forall_mem_cons.mpr ⟨c15, fun _ h => by cases h⟩⟩⟩) dX8_year_48 rfl ?_
            refine jr_aload_n dX8_year_99 rfl rfl jv_rr ?_
            refine jr_aload_n dX8_year_100 rfl rfl jv_rr ?_
            refine tr_getR (c := 469) hT (List.mem_of_getElem? (i := 20) rfl) fl_X8_76_23 dX8_year_101 ?_
            obtain ⟨r19, h18, hf⟩ := so_b hf
            refine jr_callM (st := []) lk_X8_332_23 (wX8_wishedIn 469 hT S10 (show tm_k 469 = 50 from rfl) h18) tm_k23 rfl rfl rfl (so_le rfl) (so_le rfl) dX8_year_104 ?_
            obtain ⟨rfl, rfl⟩ := so_e2 hf
            exact jr_iret rfl rfl dX8_year_107
    · have hf := so_f c7 hf
      refine jr_iconst dX8_year_37 ic_0 ?_
      obtain ⟨rfl, rfl⟩ := so_e2 hf
      exact jr_iret rfl rfl dX8_year_38
  · refine so_jE hf (fun J => ∀ (u0 : Unit), J u0 = some (res, sg') → jg_ (tm_j S0 sg, tm_j S0 sg', .inl (some (.int res))) kX8_year 24 [(0, .ref (tm_a 0)), (1, .int a1), (2, .int a2), (3, .int a3), (4, .int a4)] [.ref (tm_a 0)] (tm_j S0 S1)) (fun _u hf => ?_) (fun J20 hJ20 hf => ?_)
    · refine jr_iconst dX8_year_24 ic_1 ?_
      refine jr_goto (tgt := 29) dX8_year_25 rfl ?_
      exact hJ3 (1 : Int32) hf
    · refine jr_if_eq (tgt := 24) dX8_year_11 rfl (fun c21 => ?_) (fun c21 => ?_)
      · have hf := so_t c21 hf
        exact hJ20 () hf
      · have hf := so_f c21 hf
        refine jr_iload dX8_year_14 rfl ?_
        refine jr_iconst dX8_year_16 ic_0 ?_
        refine jr_iconst dX8_year_17 ic_3 ?_
        refine jr_call (st := [.ref (tm_a 0)]) lk_X8_140 (wX8_in a4 (0 : Int32) (3 : Int32) hT S1 rfl) jk_r0 rfl rfl (so_le rfl) (so_le rfl) dX8_year_18 ?_
        refine jr_if_ne (tgt := 28) dX8_year_21 rfl (fun c22 => ?_) (fun c22 => ?_)
        · have hf := so_f c22 hf
          refine jr_iconst dX8_year_28 ic_0 ?_
          exact hJ3 (0 : Int32) hf
        · have hf := so_t c22 hf
          exact hJ20 () hf

/- X8_span -/
abbrev kX8_span : jx_K := (cX8_span, 12, RX8, 9, (Option.some Jvm.ClassFile.FieldType.int), "span", [])
def LX8_span_71 (f1 : Int32) (f2 : Int32) (f3 : Int32) (f4 : Int32) (f5 : Int32) (f6 : Int32) (k162 : Int32 → Int32 → Int32 → tm_S → Option (Int32 × tm_S)) : Nat → Int32 → Int32 → Int32 → Int32 → tm_S → Option (Int32 × tm_S)
  | 0, _, _, _, _, _ => none
  | n + 1, v8, v9, v10, v11, S12 =>
    if f2 ≤ v11 then
    (k162 v8 v9 v10 S12)
    else
    ((fX8_yearBy (f1 + v11) f3 f4 S12).bind fun S16 =>
    (fX8_changedIn 469 S16).bind fun r18 =>
    (fX8_ones r18 S16).bind fun r20 =>
    so_j (κ := Int32 → Option (Int32 × tm_S)) (ρ := Option (Int32 × tm_S)) (fun (v21 : Int32) =>
    (fX8_changedIn 469 S16).bind fun r24 =>
    so_j (κ := Int32 → Option (Int32 × tm_S)) (ρ := Option (Int32 × tm_S)) (fun (v25 : Int32) =>
    LX8_span_71 f1 f2 f3 f4 f5 f6 k162 n v21 (fX8_more v9 r20) (v10 + v25) (v11 + (1 : Int32)) S16)
    (fun J26 =>
    if (fX8_has r24 f6) = (0 : Int32) then
    (J26 (0 : Int32))
    else
    (J26 (1 : Int32))))
    (fun J22 =>
    if v8 = (-1 : Int32) then
    (J22 r20)
    else
    (J22 (fX8_less v8 r20))))
set_option maxHeartbeats 4000000 in
set_option maxRecDepth 100000 in
theorem wX8_span_71 {res : Int32} {sg' : tm_S} {S0 : so_St} {sg0 : tm_S}   (f1 : Int32) (f2 : Int32) (f3 : Int32) (f4 : Int32) (f5 : Int32) (f6 : Int32) (hT : tm_Sh S0)   (k162 : Int32 → Int32 → Int32 → tm_S → Option (Int32 × tm_S)) (h162 : ∀ (v29 : Int32) (v30 : Int32) (v31 : Int32) (S32 : tm_S), k162 v29 v30 v31 S32 = some (res, sg') → jg_ (tm_j S0 sg0, tm_j S0 sg', .inl (some (.int res))) kX8_span 162 [(5, .int f5), (7, .int v29), (8, .int v30), (9, .int v31)] [] (tm_j S0 S32)) : ∀ (n : Nat) (v8 : Int32) (v9 : Int32) (v10 : Int32) (v11 : Int32) (S12 : tm_S), LX8_span_71 f1 f2 f3 f4 f5 f6 k162 n v8 v9 v10 v11 S12 = some (res, sg') → jg_ (tm_j S0 sg0, tm_j S0 sg', .inl (some (.int res))) kX8_span 71 [(0, .ref (tm_a 0)), (1, .int f1), (2, .int f2), (3, .int f3), (4, .int f4), (5, .int f5), (6, .int f6), (7, .int v8), (8, .int v9), (9, .int v10), (10, .int v11)] [] (tm_j S0 S12) := by
  intro n
  induction n with
  | zero =>
    intro v8 v9 v10 v11 S12 hf
    exact so_no hf
  | succ n ih =>
    intro v8 v9 v10 v11 S12 hf
    rw [LX8_span_71] at hf
    refine jr_iload dX8_span_71 rfl ?_
    refine jr_iload_n dX8_span_73 rfl rfl ?_
    refine jr_icmp_ge (tgt := 162) dX8_span_74 rfl (fun c13 => ?_) (fun c13 => ?_)
    · have hf := so_t c13 hf
      refine jr_sub [5, 7, 8, 9] rfl ?_
      exact h162 v8 v9 v10 S12 hf
    · have hf := so_f c13 hf
      refine jr_aload_n dX8_span_77 rfl rfl jv_rr ?_
      refine jr_iload_n dX8_span_78 rfl rfl ?_
      refine jr_iload dX8_span_79 rfl ?_
      refine jr_iadd dX8_span_81 ?_
      refine jr_iload_n dX8_span_82 rfl rfl ?_
      refine jr_iload dX8_span_83 rfl ?_
      obtain ⟨S16, h14, hf⟩ := so_b hf
      refine jr_callM (st := []) lk_X8_399_23 (wX8_yearBy (f1 + v11) f3 f4 hT S12 h14) tm_k23 rfl rfl rfl (so_le rfl) (so_le rfl) dX8_span_85 ?_
      refine jr_aload_n dX8_span_88 rfl rfl jv_rr ?_
      refine jr_aload_n dX8_span_89 rfl rfl jv_rr ?_
      refine tr_getR (c := 469) hT (List.mem_of_getElem? (i := 20) rfl) fl_X8_76_23 dX8_span_90 ?_
      obtain ⟨r18, h17, hf⟩ := so_b hf
      refine jr_callM (st := []) lk_X8_383_23 (wX8_changedIn 469 hT S16 (show tm_k 469 = 50 from rfl) h17) tm_k23 rfl rfl rfl (so_le rfl) (so_le rfl) dX8_span_93 ?_
      obtain ⟨r20, h19, hf⟩ := so_b hf
      refine jr_call (st := []) lk_X8_367 (wX8_ones r18 hT S16 h19) jk_r0 rfl rfl (so_le rfl) (so_le rfl) dX8_span_96 ?_
      refine jr_istore (lv' := [(0, .ref (tm_a 0)), (1, .int f1), (2, .int f2), (3, .int f3), (4, .int f4), (5, .int f5), (6, .int f6), (7, .int v8), (8, .int v9), (9, .int v10), (10, .int v11), (11, .int r20)]) dX8_span_99 (so_le rfl) rfl ?_
      refine jr_iload dX8_span_101 rfl ?_
      refine jr_iconst dX8_span_103 ic_m1 ?_
      refine so_jE hf (fun J => ∀ (v21 : Int32), J v21 = some (res, sg') → jg_ (tm_j S0 sg0, tm_j S0 sg', .inl (some (.int res))) kX8_span 119 [(0, .ref (tm_a 0)), (1, .int f1), (2, .int f2), (3, .int f3), (4, .int f4), (5, .int f5), (6, .int f6), (8, .int v9), (9, .int v10), (10, .int v11), (11, .int r20)] [.int v21] (tm_j S0 S16)) (fun v21 hf => ?_) (fun J22 hJ22 hf => ?_)
      · refine jr_istore (lv' := [(0, .ref (tm_a 0)), (1, .int f1), (2, .int f2), (3, .int f3), (4, .int f4), (5, .int f5), (6, .int f6), (7, .int v21), (8, .int v9), (9, .int v10), (10, .int v11), (11, .int r20)]) dX8_span_119 (so_le rfl) rfl ?_
        refine jr_iload dX8_span_121 rfl ?_
        refine jr_iload dX8_span_123 rfl ?_
        refine jr_call (st := []) lk_X8_252 (wX8_more v9 r20 hT S16 rfl) jk_r0 rfl rfl (so_le rfl) (so_le rfl) dX8_span_125 ?_
        refine jr_istore (lv' := [(0, .ref (tm_a 0)), (1, .int f1), (2, .int f2), (3, .int f3), (4, .int f4), (5, .int f5), (6, .int f6), (7, .int v21), (8, .int (fX8_more v9 r20)), (9, .int v10), (10, .int v11), (11, .int r20)]) dX8_span_128 (so_le rfl) rfl ?_
        refine jr_iload dX8_span_130 rfl ?_
        refine jr_aload_n dX8_span_132 rfl rfl jv_rr ?_
        refine jr_aload_n dX8_span_133 rfl rfl jv_rr ?_
        refine tr_getR (c := 469) hT (List.mem_of_getElem? (i := 20) rfl) fl_X8_76_23 dX8_span_134 ?_
        obtain ⟨r24, h23, hf⟩ := so_b hf
        refine jr_callM (st := [.int v10]) lk_X8_383_23 (wX8_changedIn 469 hT S16 (show tm_k 469 = 50 from rfl) h23) tm_k23 rfl rfl rfl (so_le rfl) (so_le rfl) dX8_span_137 ?_
        refine jr_iload dX8_span_140 rfl ?_
        refine jr_call (st := [.int v10]) lk_X8_370 (wX8_has r24 f6 hT S16 rfl) jk_r0 rfl rfl (so_le rfl) (so_le rfl) dX8_span_142 ?_
        refine so_jE hf (fun J => ∀ (v25 : Int32), J v25 = some (res, sg') → jg_ (tm_j S0 sg0, tm_j S0 sg', .inl (some (.int res))) kX8_span 153 [(0, .ref (tm_a 0)), (1, .int f1), (2, .int f2), (3, .int f3), (4, .int f4), (5, .int f5), (6, .int f6), (7, .int v21), (8, .int (fX8_more v9 r20)), (10, .int v11)] [.int v25, .int v10] (tm_j S0 S16)) (fun v25 hf => ?_) (fun J26 hJ26 hf => ?_)
        · refine jr_iadd dX8_span_153 ?_
          refine jr_istore (lv' := [(0, .ref (tm_a 0)), (1, .int f1), (2, .int f2), (3, .int f3), (4, .int f4), (5, .int f5), (6, .int f6), (7, .int v21), (8, .int (fX8_more v9 r20)), (9, .int (v10 + v25)), (10, .int v11)]) dX8_span_154 (so_le rfl) rfl ?_
          refine jr_iinc (v := v11 + (1 : Int32)) (lv' := [(0, .ref (tm_a 0)), (1, .int f1), (2, .int f2), (3, .int f3), (4, .int f4), (5, .int f5), (6, .int f6), (7, .int v21), (8, .int (fX8_more v9 r20)), (9, .int (v10 + v25)), (10, .int (v11 + (1 : Int32)))]) dX8_span_156 rfl rfl (so_le rfl) rfl ?_
          refine jr_goto (tgt := 71) dX8_span_159 rfl ?_
          exact ih v21 (fX8_more v9 r20) (v10 + v25) (v11 + (1 : Int32)) S16 hf
        · refine jr_if_eq (tgt := 152) dX8_span_145 rfl (fun c27 => ?_) (fun c27 => ?_)
          · have hf := so_t c27 hf
            refine jr_iconst dX8_span_152 ic_0 ?_
            refine jr_sub [0, 1, 2, 3, 4, 5, 6, 7, 8, 10] rfl ?_
            exact hJ26 (0 : Int32) hf
          · have hf := so_f c27 hf
            refine jr_iconst dX8_span_148 ic_1 ?_
            refine jr_goto (tgt := 153) dX8_span_149 rfl ?_
            refine jr_sub [0, 1, 2, 3, 4, 5, 6, 7, 8, 10] rfl ?_
            exact hJ26 (1 : Int32) hf
      · refine jr_icmp_ne (tgt := 112) dX8_span_104 rfl (fun c28 => ?_) (fun c28 => ?_)
        · have hf := so_f c28 hf
          refine jr_iload dX8_span_112 rfl ?_
          refine jr_iload dX8_span_114 rfl ?_
          refine jr_call (st := []) lk_X8_249 (wX8_less v8 r20 hT S16 rfl) jk_r0 rfl rfl (so_le rfl) (so_le rfl) dX8_span_116 ?_
          refine jr_sub [0, 1, 2, 3, 4, 5, 6, 8, 9, 10, 11] rfl ?_
          exact hJ22 (fX8_less v8 r20) hf
        · have hf := so_t c28 hf
          refine jr_iload dX8_span_107 rfl ?_
          refine jr_goto (tgt := 119) dX8_span_109 rfl ?_
          refine jr_sub [0, 1, 2, 3, 4, 5, 6, 8, 9, 10, 11] rfl ?_
          exact hJ22 r20 hf
def fX8_span (a1 : Int32) (a2 : Int32) (a3 : Int32) (a4 : Int32) (a5 : Int32) (a6 : Int32) (sg : tm_S) : Option (Int32 × tm_S) :=
  tm_let (tm_up sg 0 0 (0 : Int32)) fun S1 =>
  so_j (κ := Int32 → Option (Int32 × tm_S)) (ρ := Option (Int32 × tm_S)) (fun (v2 : Int32) =>
  tm_b2 (fX8_bad v2 (1 : Int32) (1 : Int32) S1) fun r5 S6 =>
  if r5 = (0 : Int32) then
  (LX8_span_71 a1 a2 a3 a4 a5 a6 (fun (v33 : Int32) (v34 : Int32) (v35 : Int32) (S36 : tm_S) =>
  if a5 = (0 : Int32) then
  (some (v33, S36))
  else
  (if a5 = (1 : Int32) then
  (some (v34, S36))
  else
  (some (v35, S36)))) so_N (-1 : Int32) (0 : Int32) (0 : Int32) (0 : Int32) S6)
  else
  (some ((0 : Int32), S6)))
  (fun J3 =>
  so_j (κ := Unit → Option (Int32 × tm_S)) (ρ := Option (Int32 × tm_S)) (fun (_u : Unit) =>
  J3 (1 : Int32))
  (fun J39 =>
  if (fX8_in a2 (1 : Int32) (20 : Int32)) = (0 : Int32) then
  (J39 ())
  else
  (if (fX8_isYear a3 a4) = (0 : Int32) then
  (J39 ())
  else
  (if (fX8_in a5 (0 : Int32) (2 : Int32)) = (0 : Int32) then
  (J39 ())
  else
  ((fX8_isHouse a6 S1).bind fun r44 =>
  if r44 = (0 : Int32) then
  (J39 ())
  else
  (J3 (0 : Int32)))))))
set_option maxHeartbeats 4000000 in
set_option maxRecDepth 100000 in
theorem wX8_span {res : Int32} {sg' : tm_S} {S0 : so_St}  (a1 : Int32) (a2 : Int32) (a3 : Int32) (a4 : Int32) (a5 : Int32) (a6 : Int32) (hT : tm_Sh S0) (sg : tm_S)  (hf : fX8_span a1 a2 a3 a4 a5 a6 sg = some (res, sg')) : jx_Sp 9 yX8_span (ws_ yX8_span cX8_span 12 (Option.some Jvm.ClassFile.FieldType.int)) [.ref (tm_a 0), .int a1, .int a2, .int a3, .int a4, .int a5, .int a6] (tm_j S0 sg) (.inl (some (.int res))) (tm_j S0 sg') := by
  refine jx_of (plainFor_of_name (by decide)) (so_le rfl) ?_
  show jg_ ((tm_j S0 sg), (tm_j S0 sg'), .inl (some (.int res))) kX8_span 0 [(0, .ref (tm_a 0)), (1, .int a1), (2, .int a2), (3, .int a3), (4, .int a4), (5, .int a5), (6, .int a6)] [] (tm_j S0 sg)
  unfold fX8_span at hf
  refine jr_aload_n dX8_span_0 rfl rfl jv_rr ?_
  refine jr_iconst dX8_span_1 ic_0 ?_
  refine tr_putI fp_X8_106_23 dX8_span_2 ?_
  refine tm_let_e hf (fun S1 hf => ?_)
  refine jr_aload_n dX8_span_5 rfl rfl jv_rr ?_
  refine jr_iload_n dX8_span_6 rfl rfl ?_
  refine jr_iconst dX8_span_7 ic_1 ?_
  refine jr_bipush dX8_span_8 bp_20 ?_
  refine jr_call (st := [.ref (tm_a 0)]) lk_X8_140 (wX8_in a2 (1 : Int32) (20 : Int32) hT S1 rfl) jk_r0 rfl rfl (so_le rfl) (so_le rfl) dX8_span_10 ?_
  refine so_jE hf (fun J => ∀ (v2 : Int32), J v2 = some (res, sg') → jg_ (tm_j S0 sg, tm_j S0 sg', .inl (some (.int res))) kX8_span 49 [(0, .ref (tm_a 0)), (1, .int a1), (2, .int a2), (3, .int a3), (4, .int a4), (5, .int a5), (6, .int a6)] [.int v2, .ref (tm_a 0)] (tm_j S0 S1)) (fun v2 hf => ?_) (fun J3 hJ3 hf => ?_)
  · refine jr_iconst dX8_span_49 ic_1 ?_
    refine jr_iconst dX8_span_50 ic_1 ?_
    obtain ⟨r5, S6, h4, hf⟩ := tm_b2E hf
    refine jr_callM (st := []) lk_X8_189_23 (wX8_bad v2 (1 : Int32) (1 : Int32) hT S1 h4) tm_k23 rfl rfl rfl (so_le rfl) (so_le rfl) dX8_span_51 ?_
    refine jr_if_eq (tgt := 59) dX8_span_54 rfl (fun c7 => ?_) (fun c7 => ?_)
    · have hf := so_t c7 hf
      refine jr_iconst dX8_span_59 ic_m1 ?_
      refine jr_istore (lv' := [(0, .ref (tm_a 0)), (1, .int a1), (2, .int a2), (3, .int a3), (4, .int a4), (5, .int a5), (6, .int a6), (7, .int (-1 : Int32))]) dX8_span_60 (so_le rfl) rfl ?_
      refine jr_iconst dX8_span_62 ic_0 ?_
      refine jr_istore (lv' := [(0, .ref (tm_a 0)), (1, .int a1), (2, .int a2), (3, .int a3), (4, .int a4), (5, .int a5), (6, .int a6), (7, .int (-1 : Int32)), (8, .int (0 : Int32))]) dX8_span_63 (so_le rfl) rfl ?_
      refine jr_iconst dX8_span_65 ic_0 ?_
      refine jr_istore (lv' := [(0, .ref (tm_a 0)), (1, .int a1), (2, .int a2), (3, .int a3), (4, .int a4), (5, .int a5), (6, .int a6), (7, .int (-1 : Int32)), (8, .int (0 : Int32)), (9, .int (0 : Int32))]) dX8_span_66 (so_le rfl) rfl ?_
      refine jr_iconst dX8_span_68 ic_0 ?_
      refine jr_istore (lv' := [(0, .ref (tm_a 0)), (1, .int a1), (2, .int a2), (3, .int a3), (4, .int a4), (5, .int a5), (6, .int a6), (7, .int (-1 : Int32)), (8, .int (0 : Int32)), (9, .int (0 : Int32)), (10, .int (0 : Int32))]) dX8_span_69 (so_le rfl) rfl ?_
      refine wX8_span_71 a1 a2 a3 a4 a5 a6 hT _ (fun v33 v34 v35 S36 hf => ?_) so_N (-1 : Int32) (0 : Int32) (0 : Int32) (0 : Int32) S6 hf
      refine jr_iload dX8_span_162 rfl ?_
      refine jr_if_ne (tgt := 172) dX8_span_164 rfl (fun c37 => ?_) (fun c37 => ?_)
      · have hf := so_f c37 hf
        refine jr_iload dX8_span_172 rfl ?_
        refine jr_iconst dX8_span_174 ic_1 ?_
        refine jr_icmp_ne (tgt := 183) dX8_span_175 rfl (fun c38 => ?_) (fun c38 => ?_)
        · have hf := so_f c38 hf
          refine jr_iload dX8_span_183 rfl ?_
          obtain ⟨rfl, rfl⟩ := so_e2 hf
          exact jr_iret rfl rfl dX8_span_185
        · have hf := so_t c38 hf
          refine jr_iload dX8_span_178 rfl ?_
          refine jr_goto (tgt := 185) dX8_span_180 rfl ?_
          obtain ⟨rfl, rfl⟩ := so_e2 hf
          exact jr_iret rfl rfl dX8_span_185
      · have hf := so_t c37 hf
        refine jr_iload dX8_span_167 rfl ?_
        refine jr_goto (tgt := 185) dX8_span_169 rfl ?_
        obtain ⟨rfl, rfl⟩ := so_e2 hf
        exact jr_iret rfl rfl dX8_span_185
    · have hf := so_f c7 hf
      refine jr_iconst dX8_span_57 ic_0 ?_
      obtain ⟨rfl, rfl⟩ := so_e2 hf
      exact jr_iret rfl rfl dX8_span_58
  · refine so_jE hf (fun J => ∀ (u0 : Unit), J u0 = some (res, sg') → jg_ (tm_j S0 sg, tm_j S0 sg', .inl (some (.int res))) kX8_span 44 [(0, .ref (tm_a 0)), (1, .int a1), (2, .int a2), (3, .int a3), (4, .int a4), (5, .int a5), (6, .int a6)] [.ref (tm_a 0)] (tm_j S0 S1)) (fun _u hf => ?_) (fun J39 hJ39 hf => ?_)
    · refine jr_iconst dX8_span_44 ic_1 ?_
      refine jr_goto (tgt := 49) dX8_span_45 rfl ?_
      exact hJ3 (1 : Int32) hf
    · refine jr_if_eq (tgt := 44) dX8_span_13 rfl (fun c40 => ?_) (fun c40 => ?_)
      · have hf := so_t c40 hf
        exact hJ39 () hf
      · have hf := so_f c40 hf
        refine jr_iload_n dX8_span_16 rfl rfl ?_
        refine jr_iload dX8_span_17 rfl ?_
        refine jr_call (st := [.ref (tm_a 0)]) lk_X8_396 (wX8_isYear a3 a4 hT S1 rfl) jk_r0 rfl rfl (so_le rfl) (so_le rfl) dX8_span_19 ?_
        refine jr_if_eq (tgt := 44) dX8_span_22 rfl (fun c41 => ?_) (fun c41 => ?_)
        · have hf := so_t c41 hf
          exact hJ39 () hf
        · have hf := so_f c41 hf
          refine jr_iload dX8_span_25 rfl ?_
          refine jr_iconst dX8_span_27 ic_0 ?_
          refine jr_iconst dX8_span_28 ic_2 ?_
          refine jr_call (st := [.ref (tm_a 0)]) lk_X8_140 (wX8_in a5 (0 : Int32) (2 : Int32) hT S1 rfl) jk_r0 rfl rfl (so_le rfl) (so_le rfl) dX8_span_29 ?_
          refine jr_if_eq (tgt := 44) dX8_span_32 rfl (fun c42 => ?_) (fun c42 => ?_)
          · have hf := so_t c42 hf
            exact hJ39 () hf
          · have hf := so_f c42 hf
            refine jr_aload_n dX8_span_35 rfl rfl jv_rr ?_
            refine jr_iload dX8_span_36 rfl ?_
            obtain ⟨r44, h43, hf⟩ := so_b hf
            refine jr_callM (st := [.ref (tm_a 0)]) lk_X8_339_23 (wX8_isHouse a6 hT S1 h43) tm_k23 rfl rfl rfl (so_le rfl) (so_le rfl) dX8_span_38 ?_
            refine jr_if_ne (tgt := 48) dX8_span_41 rfl (fun c45 => ?_) (fun c45 => ?_)
            · have hf := so_f c45 hf
              refine jr_iconst dX8_span_48 ic_0 ?_
              exact hJ3 (0 : Int32) hf
            · have hf := so_t c45 hf
              exact hJ39 () hf

/- X8_puts -/
abbrev kX8_puts : jx_K := (cX8_puts, 4, RX8, 0, (Option.some Jvm.ClassFile.FieldType.int), "puts", [])
def fX8_puts (a1 : Nat) (a2 : Int32) (a3 : Int32) (sg : tm_S) : Option (Int32 × tm_S) :=
  so_j (κ := tm_S → Option (Int32 × tm_S)) (ρ := Option (Int32 × tm_S)) (fun (S1 : tm_S) =>
  tm_let (tm_up S1 0 40 ((S1 0 40) + (1 : Int32))) fun S3 =>
  so_gd (so_in ((S3 0 40) - (1 : Int32)) (tm_len a1)) fun _ =>
  some ((S3 a1 ((S3 0 40) - (1 : Int32)).toNatClampNeg), S3))
  (fun J2 =>
  if a3 = (0 : Int32) then
  (so_gd (so_in (sg 0 40) (tm_len a1)) fun _ =>
  tm_let (tm_up sg a1 (sg 0 40).toNatClampNeg a2) fun S7 =>
  J2 S7)
  else
  (J2 sg))
set_option maxHeartbeats 4000000 in
set_option maxRecDepth 100000 in
theorem wX8_puts {res : Int32} {sg' : tm_S} {S0 : so_St}  (a1 : Nat) (a2 : Int32) (a3 : Int32) (hT : tm_Sh S0) (sg : tm_S) (k_a1 : tm_k a1 = 50) (hf : fX8_puts a1 a2 a3 sg = some (res, sg')) : jx_Sp 0 yX8_puts (ws_ yX8_puts cX8_puts 4 (Option.some Jvm.ClassFile.FieldType.int)) [.ref (tm_a 0), .ref (tm_a a1), .int a2, .int a3] (tm_j S0 sg) (.inl (some (.int res))) (tm_j S0 sg') := by
  refine jx_of (plainFor_of_name (by decide)) (so_le rfl) ?_
  show jg_ ((tm_j S0 sg), (tm_j S0 sg'), .inl (some (.int res))) kX8_puts 0 [(0, .ref (tm_a 0)), (1, .ref (tm_a a1)), (2, .int a2), (3, .int a3)] [] (tm_j S0 sg)
  unfold fX8_puts at hf
  refine jr_iload_n dX8_puts_0 rfl rfl ?_
  refine so_jE hf (fun J => ∀ (S1 : tm_S), J S1 = some (res, sg') → jg_ (tm_j S0 sg, tm_j S0 sg', .inl (some (.int res))) kX8_puts 11 [(0, .ref (tm_a 0)), (1, .ref (tm_a a1))] [] (tm_j S0 S1)) (fun S1 hf => ?_) (fun J2 hJ2 hf => ?_)
  · refine jr_aload_n dX8_puts_11 rfl rfl jv_rr ?_
    refine jr_dup dX8_puts_12 rfl ?_
    refine tr_getI fl_X8_402_23 dX8_puts_13 ?_
    refine jr_iconst dX8_puts_16 ic_1 ?_
    refine jr_iadd dX8_puts_17 ?_
    refine tr_putI fp_X8_402_23 dX8_puts_18 ?_
    refine tm_let_e hf (fun S3 hf => ?_)
    refine jr_aload_n dX8_puts_21 rfl rfl jv_rr ?_
    refine jr_aload_n dX8_puts_22 rfl rfl jv_rr ?_
    refine tr_getI fl_X8_402_23 dX8_puts_23 ?_
    refine jr_iconst dX8_puts_26 ic_1 ?_
    refine jr_isub dX8_puts_27 ?_
    obtain ⟨g4, hf⟩ := so_gdE hf
    refine tr_iaload hT k_a1 rfl (so_inE g4) dX8_puts_28 ?_
    obtain ⟨rfl, rfl⟩ := so_e2 hf
    exact jr_iret rfl rfl dX8_puts_29
  · refine jr_if_ne (tgt := 11) dX8_puts_1 rfl (fun c5 => ?_) (fun c5 => ?_)
    · have hf := so_f c5 hf
      refine jr_sub [0, 1] rfl ?_
      exact hJ2 sg hf
    · have hf := so_t c5 hf
      refine jr_aload_n dX8_puts_4 rfl rfl jv_rr ?_
      refine jr_aload_n dX8_puts_5 rfl rfl jv_rr ?_
      refine tr_getI fl_X8_402_23 dX8_puts_6 ?_
      refine jr_iload_n dX8_puts_9 rfl rfl ?_
      obtain ⟨g6, hf⟩ := so_gdE hf
      refine tr_iastore hT k_a1 rfl (so_inE g6) dX8_puts_10 ?_
      refine tm_let_e hf (fun S7 hf => ?_)
      refine jr_sub [0, 1] rfl ?_
      exact hJ2 S7 hf

/- X8_putsAll -/
abbrev kX8_putsAll : jx_K := (cX8_putsAll, 5, RX8, 1, (Option.none : Option Jvm.ClassFile.FieldType), "putsAll", [])
def LX8_putsAll_21 (f1 : Nat) (f2 : Int32) (k51 : tm_S → Option tm_S) : Nat → Int32 → tm_S → Option tm_S
  | 0, _, _ => none
  | n + 1, v6, S7 =>
    if (100 : Int32) ≤ v6 then
    (k51 S7)
    else
    (so_gd (so_in v6 100) fun _ =>
    tm_b2 (fX8_puts f1 (S7 468 v6.toNatClampNeg) f2 S7) fun r11 S12 =>
    so_gd (so_in v6 100) fun _ =>
    tm_let (tm_up S12 468 v6.toNatClampNeg r11) fun S14 =>
    LX8_putsAll_21 f1 f2 k51 n (v6 + (1 : Int32)) S14)
set_option maxHeartbeats 4000000 in
set_option maxRecDepth 100000 in
theorem wX8_putsAll_21 {sg' : tm_S} {S0 : so_St} {sg0 : tm_S}   (f1 : Nat) (f2 : Int32) (hT : tm_Sh S0)  (k_f1 : tm_k f1 = 50) (k51 : tm_S → Option tm_S) (h51 : ∀ (S15 : tm_S), k51 S15 = some sg' → jg_ (tm_j S0 sg0, tm_j S0 sg', .inl none) kX8_putsAll 51 [(0, .ref (tm_a 0)), (1, .ref (tm_a f1)), (2, .int f2)] [] (tm_j S0 S15)) : ∀ (n : Nat) (v6 : Int32) (S7 : tm_S), LX8_putsAll_21 f1 f2 k51 n v6 S7 = some sg' → jg_ (tm_j S0 sg0, tm_j S0 sg', .inl none) kX8_putsAll 21 [(0, .ref (tm_a 0)), (1, .ref (tm_a f1)), (2, .int f2), (3, .int v6)] [] (tm_j S0 S7) := by
  intro n
  induction n with
  | zero =>
    intro v6 S7 hf
    exact so_no hf
  | succ n ih =>
    intro v6 S7 hf
    rw [LX8_putsAll_21] at hf
    refine jr_iload_n dX8_putsAll_21 rfl rfl ?_
    refine jr_bipush dX8_putsAll_22 bp_100 ?_
    refine jr_icmp_ge (tgt := 51) dX8_putsAll_24 rfl (fun c8 => ?_) (fun c8 => ?_)
    · have hf := so_t c8 hf
      refine jr_sub [0, 1, 2] rfl ?_
      exact h51 S7 hf
    · have hf := so_f c8 hf
      refine jr_aload_n dX8_putsAll_27 rfl rfl jv_rr ?_
      refine tr_getR (c := 468) hT (List.mem_of_getElem? (i := 19) rfl) fl_X8_73_23 dX8_putsAll_28 ?_
      refine jr_iload_n dX8_putsAll_31 rfl rfl ?_
      refine jr_aload_n dX8_putsAll_32 rfl rfl jv_rr ?_
      refine jr_aload_n dX8_putsAll_33 rfl rfl jv_rr ?_
      refine jr_aload_n dX8_putsAll_34 rfl rfl jv_rr ?_
      refine tr_getR (c := 468) hT (List.mem_of_getElem? (i := 19) rfl) fl_X8_73_23 dX8_putsAll_35 ?_
      refine jr_iload_n dX8_putsAll_38 rfl rfl ?_
      obtain ⟨g9, hf⟩ := so_gdE hf
      refine tr_iaload hT (show tm_k 468 = 50 from rfl) rfl (so_inE g9) dX8_putsAll_39 ?_
      refine jr_iload_n dX8_putsAll_40 rfl rfl ?_
      obtain ⟨r11, S12, h10, hf⟩ := tm_b2E hf
      refine jr_callM (st := [.int v6, .ref (tm_a 468)]) lk_X8_405_23 (wX8_puts f1 (S7 468 v6.toNatClampNeg) f2 hT S7 k_f1 h10) tm_k23 rfl rfl rfl (so_le rfl) (so_le rfl) dX8_putsAll_41 ?_
      obtain ⟨g13, hf⟩ := so_gdE hf
      refine tr_iastore hT (show tm_k 468 = 50 from rfl) rfl (so_inE g13) dX8_putsAll_44 ?_
      refine tm_let_e hf (fun S14 hf => ?_)
      refine jr_iinc (v := v6 + (1 : Int32)) (lv' := [(0, .ref (tm_a 0)), (1, .ref (tm_a f1)), (2, .int f2), (3, .int (v6 + (1 : Int32)))]) dX8_putsAll_45 rfl rfl (so_le rfl) rfl ?_
      refine jr_goto (tgt := 21) dX8_putsAll_48 rfl ?_
      exact ih (v6 + (1 : Int32)) S14 hf
def LX8_putsAll_62 (f1 : Nat) (f2 : Int32) (f3 : Int32) (k99 : tm_S → Option tm_S) : Nat → Int32 → tm_S → Option tm_S
  | 0, _, _ => none
  | n + 1, v20, S21 =>
    if (100 : Int32) ≤ v20 then
    (k99 S21)
    else
    (so_gd (so_in f3 16) fun _ =>
    so_gd (so_in f3 16) fun _ =>
    so_gd (so_in v20 100) fun _ =>
    tm_b2 (fX8_puts f1 (S21 (472 + f3.toNatClampNeg) v20.toNatClampNeg) f2 S21) fun r27 S28 =>
    so_gd (so_in v20 100) fun _ =>
    tm_let (tm_up S28 (472 + f3.toNatClampNeg) v20.toNatClampNeg r27) fun S30 =>
    LX8_putsAll_62 f1 f2 f3 k99 n (v20 + (1 : Int32)) S30)
set_option maxHeartbeats 4000000 in
set_option maxRecDepth 100000 in
theorem wX8_putsAll_62 {sg' : tm_S} {S0 : so_St} {sg0 : tm_S}   (f1 : Nat) (f2 : Int32) (f3 : Int32) (hT : tm_Sh S0)  (k_f1 : tm_k f1 = 50) (k99 : tm_S → Option tm_S) (h99 : ∀ (S31 : tm_S), k99 S31 = some sg' → jg_ (tm_j S0 sg0, tm_j S0 sg', .inl none) kX8_putsAll 99 [(0, .ref (tm_a 0)), (1, .ref (tm_a f1)), (2, .int f2), (3, .int f3)] [] (tm_j S0 S31)) : ∀ (n : Nat) (v20 : Int32) (S21 : tm_S), LX8_putsAll_62 f1 f2 f3 k99 n v20 S21 = some sg' → jg_ (tm_j S0 sg0, tm_j S0 sg', .inl none) kX8_putsAll 62 [(0, .ref (tm_a 0)), (1, .ref (tm_a f1)), (2, .int f2), (3, .int f3), (4, .int v20)] [] (tm_j S0 S21) := by
  intro n
  induction n with
  | zero =>
    intro v20 S21 hf
    exact so_no hf
  | succ n ih =>
    intro v20 S21 hf
    rw [LX8_putsAll_62] at hf
    refine jr_iload dX8_putsAll_62 rfl ?_
    refine jr_bipush dX8_putsAll_64 bp_100 ?_
    refine jr_icmp_ge (tgt := 99) dX8_putsAll_66 rfl (fun c22 => ?_) (fun c22 => ?_)
    · have hf := so_t c22 hf
      refine jr_sub [0, 1, 2, 3] rfl ?_
      exact h99 S21 hf
    · have hf := so_f c22 hf
      refine jr_aload_n dX8_putsAll_69 rfl rfl jv_rr ?_
      refine tr_getR (c := 471) hT (List.mem_of_getElem? (i := 22) rfl) fl_X8_82_23 dX8_putsAll_70 ?_
      refine jr_iload_n dX8_putsAll_73 rfl rfl ?_
      obtain ⟨g23, hf⟩ := so_gdE hf
      refine tr_aaload (g' := 472) hT (show tm_k 471 = 56 from rfl) rfl rfl (so_inE g23) dX8_putsAll_74 ?_
      refine jr_iload dX8_putsAll_75 rfl ?_
      refine jr_aload_n dX8_putsAll_77 rfl rfl jv_rr ?_
      refine jr_aload_n dX8_putsAll_78 rfl rfl jv_rr ?_
      refine jr_aload_n dX8_putsAll_79 rfl rfl jv_rr ?_
      refine tr_getR (c := 471) hT (List.mem_of_getElem? (i := 22) rfl) fl_X8_82_23 dX8_putsAll_80 ?_
      refine jr_iload_n dX8_putsAll_83 rfl rfl ?_
      obtain ⟨g24, hf⟩ := so_gdE hf
      refine tr_aaload (g' := 472) hT (show tm_k 471 = 56 from rfl) rfl rfl (so_inE g24) dX8_putsAll_84 ?_
      refine jr_iload dX8_putsAll_85 rfl ?_
      obtain ⟨g25, hf⟩ := so_gdE hf
      refine tr_iaload hT (tm_rk_471 (so_inE g24)) (tm_rl_471 (so_inE g24)) (so_inE g25) dX8_putsAll_87 ?_
      refine jr_iload_n dX8_putsAll_88 rfl rfl ?_
      obtain ⟨r27, S28, h26, hf⟩ := tm_b2E hf
      refine jr_callM (st := [.int v20, .ref (tm_a (472 + f3.toNatClampNeg))]) lk_X8_405_23 (wX8_puts f1 (S21 (472 + f3.toNatClampNeg) v20.toNatClampNeg) f2 hT S21 k_f1 h26) tm_k23 rfl rfl rfl (so_le rfl) (so_le rfl) dX8_putsAll_89 ?_
      obtain ⟨g29, hf⟩ := so_gdE hf
      refine tr_iastore hT (tm_rk_471 (so_inE g23)) (tm_rl_471 (so_inE g23)) (so_inE g29) dX8_putsAll_92 ?_
      refine tm_let_e hf (fun S30 hf => ?_)
      refine jr_iinc (v := v20 + (1 : Int32)) (lv' := [(0, .ref (tm_a 0)), (1, .ref (tm_a f1)), (2, .int f2), (3, .int f3), (4, .int (v20 + (1 : Int32)))]) dX8_putsAll_93 rfl rfl (so_le rfl) rfl ?_
      refine jr_goto (tgt := 62) dX8_putsAll_96 rfl ?_
      exact ih (v20 + (1 : Int32)) S30 hf
def LX8_putsAll_53 (f1 : Nat) (f2 : Int32) : Nat → Int32 → tm_S → Option tm_S
  | 0, _, _ => none
  | n + 1, v17, S18 =>
    if (16 : Int32) ≤ v17 then
    (some S18)
    else
    (LX8_putsAll_62 f1 f2 v17 (fun (S32 : tm_S) =>
    LX8_putsAll_53 f1 f2 n (v17 + (1 : Int32)) S32) so_N (0 : Int32) S18)
set_option maxHeartbeats 4000000 in
set_option maxRecDepth 100000 in
theorem wX8_putsAll_53 {sg' : tm_S} {S0 : so_St} {sg0 : tm_S}   (f1 : Nat) (f2 : Int32) (hT : tm_Sh S0)  (k_f1 : tm_k f1 = 50) : ∀ (n : Nat) (v17 : Int32) (S18 : tm_S), LX8_putsAll_53 f1 f2 n v17 S18 = some sg' → jg_ (tm_j S0 sg0, tm_j S0 sg', .inl none) kX8_putsAll 53 [(0, .ref (tm_a 0)), (1, .ref (tm_a f1)), (2, .int f2), (3, .int v17)] [] (tm_j S0 S18) := by
  intro n
  induction n with
  | zero =>
    intro v17 S18 hf
    exact so_no hf
  | succ n ih =>
    intro v17 S18 hf
    rw [LX8_putsAll_53] at hf
    refine jr_iload_n dX8_putsAll_53 rfl rfl ?_
    refine jr_bipush dX8_putsAll_54 bp_16 ?_
    refine jr_icmp_ge (tgt := 105) dX8_putsAll_56 rfl (fun c19 => ?_) (fun c19 => ?_)
    · have hf := so_t c19 hf
      obtain rfl := so_e1 hf
      exact jr_vret rfl dX8_putsAll_105
    · have hf := so_f c19 hf
      refine jr_iconst dX8_putsAll_59 ic_0 ?_
      refine jr_istore (lv' := [(0, .ref (tm_a 0)), (1, .ref (tm_a f1)), (2, .int f2), (3, .int v17), (4, .int (0 : Int32))]) dX8_putsAll_60 (so_le rfl) rfl ?_
      refine wX8_putsAll_62 f1 f2 v17 hT k_f1 _ (fun S32 hf => ?_) so_N (0 : Int32) S18 hf
      refine jr_iinc (v := v17 + (1 : Int32)) (lv' := [(0, .ref (tm_a 0)), (1, .ref (tm_a f1)), (2, .int f2), (3, .int (v17 + (1 : Int32)))]) dX8_putsAll_99 rfl rfl (so_le rfl) rfl ?_
      refine jr_goto (tgt := 53) dX8_putsAll_102 rfl ?_
      exact ih (v17 + (1 : Int32)) S32 hf
def fX8_putsAll (a1 : Nat) (a2 : Int32) (sg : tm_S) : Option tm_S :=
  tm_let (tm_up sg 0 40 (0 : Int32)) fun S1 =>
  tm_b2 (fX8_puts a1 (S1 0 37) a2 S1) fun r3 S4 =>
  tm_let (tm_up S4 0 37 r3) fun S5 =>
  LX8_putsAll_21 a1 a2 (fun (S16 : tm_S) =>
  LX8_putsAll_53 a1 a2 so_N (0 : Int32) S16) so_N (0 : Int32) S5
set_option maxHeartbeats 4000000 in
set_option maxRecDepth 100000 in
theorem wX8_putsAll {sg' : tm_S} {S0 : so_St}  (a1 : Nat) (a2 : Int32) (hT : tm_Sh S0) (sg : tm_S) (k_a1 : tm_k a1 = 50) (hf : fX8_putsAll a1 a2 sg = some sg') : jx_Sp 1 yX8_putsAll (ws_ yX8_putsAll cX8_putsAll 5 (Option.none : Option Jvm.ClassFile.FieldType)) [.ref (tm_a 0), .ref (tm_a a1), .int a2] (tm_j S0 sg) (.inl none) (tm_j S0 sg') := by
  refine jx_of (plainFor_of_name (by decide)) (so_le rfl) ?_
  show jg_ ((tm_j S0 sg), (tm_j S0 sg'), .inl none) kX8_putsAll 0 [(0, .ref (tm_a 0)), (1, .ref (tm_a a1)), (2, .int a2)] [] (tm_j S0 sg)
  unfold fX8_putsAll at hf
  refine jr_aload_n dX8_putsAll_0 rfl rfl jv_rr ?_
  refine jr_iconst dX8_putsAll_1 ic_0 ?_
  refine tr_putI fp_X8_402_23 dX8_putsAll_2 ?_
  refine tm_let_e hf (fun S1 hf => ?_)
  refine jr_aload_n dX8_putsAll_5 rfl rfl jv_rr ?_
  refine jr_aload_n dX8_putsAll_6 rfl rfl jv_rr ?_
  refine jr_aload_n dX8_putsAll_7 rfl rfl jv_rr ?_
  refine jr_aload_n dX8_putsAll_8 rfl rfl jv_rr ?_
  refine tr_getI fl_X8_212_23 dX8_putsAll_9 ?_
  refine jr_iload_n dX8_putsAll_12 rfl rfl ?_
  obtain ⟨r3, S4, h2, hf⟩ := tm_b2E hf
  refine jr_callM (st := [.ref (tm_a 0)]) lk_X8_405_23 (wX8_puts a1 (S1 0 37) a2 hT S1 k_a1 h2) tm_k23 rfl rfl rfl (so_le rfl) (so_le rfl) dX8_putsAll_13 ?_
  refine tr_putI fp_X8_212_23 dX8_putsAll_16 ?_
  refine tm_let_e hf (fun S5 hf => ?_)
  refine jr_iconst dX8_putsAll_19 ic_0 ?_
  refine jr_istore_n (lv' := [(0, .ref (tm_a 0)), (1, .ref (tm_a a1)), (2, .int a2), (3, .int (0 : Int32))]) dX8_putsAll_20 rfl (so_le rfl) rfl ?_
  refine wX8_putsAll_21 a1 a2 hT k_a1 _ (fun S16 hf => ?_) so_N (0 : Int32) S5 hf
  refine jr_iconst dX8_putsAll_51 ic_0 ?_
  refine jr_istore_n (lv' := [(0, .ref (tm_a 0)), (1, .ref (tm_a a1)), (2, .int a2), (3, .int (0 : Int32))]) dX8_putsAll_52 rfl (so_le rfl) rfl ?_
  refine wX8_putsAll_53 a1 a2 hT k_a1 so_N (0 : Int32) S16 hf
