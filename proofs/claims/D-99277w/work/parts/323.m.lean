/-! printed: functions and walks -/
set_option maxRecDepth 100000
set_option linter.unusedVariables false
/- X8_isThing -/
abbrev kX8_isThing : jx_K := (cX8_isThing, 1, RX8, 1, (Option.some Jvm.ClassFile.FieldType.boolean), "isThing", [])
def fX8_isThing (a0 : Int32) (sg : tm_S) : Option Int32 :=
  so_gd (so_01 (fX8_in a0 (0 : Int32) (9 : Int32))) fun _ =>
  some (fX8_in a0 (0 : Int32) (9 : Int32))
set_option maxHeartbeats 4000000 in
set_option maxRecDepth 100000 in
theorem wX8_isThing {res : Int32} {S0 : so_St}  (a0 : Int32) (hT : tm_Sh S0) (sg : tm_S)  (hf : fX8_isThing a0 sg = some res) : jx_Sp 1 yX8_isThing (ws_ yX8_isThing cX8_isThing 1 (Option.some Jvm.ClassFile.FieldType.boolean)) [.int a0] (tm_j S0 sg) (.inl (some (.int res))) (tm_j S0 sg) := by
  refine jx_of (plainFor_of_name (by decide)) (so_le rfl) ?_
  show jg_ ((tm_j S0 sg), (tm_j S0 sg), .inl (some (.int res))) kX8_isThing 0 [(0, .int a0)] [] (tm_j S0 sg)
  unfold fX8_isThing at hf
  refine jr_iload_n dX8_isThing_0 rfl rfl ?_
  refine jr_iconst dX8_isThing_1 ic_0 ?_
  refine jr_bipush dX8_isThing_2 bp_9 ?_
  refine jr_call (st := []) lk_X8_140 (wX8_in a0 (0 : Int32) (9 : Int32) hT sg rfl) jk_r0 rfl rfl (so_le rfl) (so_le rfl) dX8_isThing_4 ?_
  obtain ⟨g1, hf⟩ := so_gdE hf
  obtain rfl := so_e1 hf
  exact jr_iret rfl (so_01n (so_01E g1)) dX8_isThing_7

/- X8_there -/
abbrev kX8_there : jx_K := (cX8_there, 3, RX8, 2, (Option.some Jvm.ClassFile.FieldType.int), "there", [])
def fX8_there (a1 : Int32) (a2 : Int32) (sg : tm_S) : Option (Int32 × tm_S) :=
  tm_let (tm_up sg 0 0 (0 : Int32)) fun S1 =>
  (fX8_isHouse a1 S1).bind fun r3 =>
  so_j (κ := Int32 → Option (Int32 × tm_S)) (ρ := Option (Int32 × tm_S)) (fun (v4 : Int32) =>
  tm_b2 (fX8_bad v4 (1 : Int32) (0 : Int32) S1) fun r7 S8 =>
  if r7 = (0 : Int32) then
  ((fX8_isThing a2 S8).bind fun r11 =>
  so_j (κ := Int32 → Option (Int32 × tm_S)) (ρ := Option (Int32 × tm_S)) (fun (v12 : Int32) =>
  tm_b2 (fX8_bad v12 (2 : Int32) (1 : Int32) S8) fun r15 S16 =>
  if r15 = (0 : Int32) then
  ((fX8_amount 468 a1 a2 S16).bind fun r19 =>
  some (r19, S16))
  else
  (some ((0 : Int32), S16)))
  (fun J13 =>
  if r11 = (0 : Int32) then
  (J13 (1 : Int32))
  else
  (J13 (0 : Int32))))
  else
  (some ((0 : Int32), S8)))
  (fun J5 =>
  if r3 = (0 : Int32) then
  (J5 (1 : Int32))
  else
  (J5 (0 : Int32)))
set_option maxHeartbeats 4000000 in
set_option maxRecDepth 100000 in
theorem wX8_there {res : Int32} {sg' : tm_S} {S0 : so_St}  (a1 : Int32) (a2 : Int32) (hT : tm_Sh S0) (sg : tm_S)  (hf : fX8_there a1 a2 sg = some (res, sg')) : jx_Sp 2 yX8_there (ws_ yX8_there cX8_there 3 (Option.some Jvm.ClassFile.FieldType.int)) [.ref (tm_a 0), .int a1, .int a2] (tm_j S0 sg) (.inl (some (.int res))) (tm_j S0 sg') := by
  refine jx_of (plainFor_of_name (by decide)) (so_le rfl) ?_
  show jg_ ((tm_j S0 sg), (tm_j S0 sg'), .inl (some (.int res))) kX8_there 0 [(0, .ref (tm_a 0)), (1, .int a1), (2, .int a2)] [] (tm_j S0 sg)
  unfold fX8_there at hf
  refine jr_aload_n dX8_there_0 rfl rfl jv_rr ?_
  refine jr_iconst dX8_there_1 ic_0 ?_
  refine tr_putI fp_X8_106_23 dX8_there_2 ?_
  refine tm_let_e hf (fun S1 hf => ?_)
  refine jr_aload_n dX8_there_5 rfl rfl jv_rr ?_
  refine jr_aload_n dX8_there_6 rfl rfl jv_rr ?_
  refine jr_iload_n dX8_there_7 rfl rfl ?_
  obtain ⟨r3, h2, hf⟩ := so_b hf
  refine jr_callM (st := [.ref (tm_a 0)]) lk_X8_339_23 (wX8_isHouse a1 hT S1 h2) tm_k23 rfl rfl rfl (so_le rfl) (so_le rfl) dX8_there_8 ?_
  refine so_jE hf (fun J => ∀ (v4 : Int32), J v4 = some (res, sg') → jg_ (tm_j S0 sg, tm_j S0 sg', .inl (some (.int res))) kX8_there 19 [(0, .ref (tm_a 0)), (1, .int a1), (2, .int a2)] [.int v4, .ref (tm_a 0)] (tm_j S0 S1)) (fun v4 hf => ?_) (fun J5 hJ5 hf => ?_)
  · refine jr_iconst dX8_there_19 ic_1 ?_
    refine jr_iconst dX8_there_20 ic_0 ?_
    obtain ⟨r7, S8, h6, hf⟩ := tm_b2E hf
    refine jr_callM (st := []) lk_X8_189_23 (wX8_bad v4 (1 : Int32) (0 : Int32) hT S1 h6) tm_k23 rfl rfl rfl (so_le rfl) (so_le rfl) dX8_there_21 ?_
    refine jr_if_ne (tgt := 48) dX8_there_24 rfl (fun c9 => ?_) (fun c9 => ?_)
    · have hf := so_f c9 hf
      refine jr_iconst dX8_there_48 ic_0 ?_
      obtain ⟨rfl, rfl⟩ := so_e2 hf
      exact jr_iret rfl rfl dX8_there_49
    · have hf := so_t c9 hf
      refine jr_aload_n dX8_there_27 rfl rfl jv_rr ?_
      refine jr_iload_n dX8_there_28 rfl rfl ?_
      obtain ⟨r11, h10, hf⟩ := so_b hf
      refine jr_call (st := [.ref (tm_a 0)]) lk_X8_342 (wX8_isThing a2 hT S8 h10) jk_r0 rfl rfl (so_le rfl) (so_le rfl) dX8_there_29 ?_
      refine so_jE hf (fun J => ∀ (v12 : Int32), J v12 = some (res, sg') → jg_ (tm_j S0 sg, tm_j S0 sg', .inl (some (.int res))) kX8_there 40 [(0, .ref (tm_a 0)), (1, .int a1), (2, .int a2)] [.int v12, .ref (tm_a 0)] (tm_j S0 S8)) (fun v12 hf => ?_) (fun J13 hJ13 hf => ?_)
      · refine jr_iconst dX8_there_40 ic_2 ?_
        refine jr_iconst dX8_there_41 ic_1 ?_
        obtain ⟨r15, S16, h14, hf⟩ := tm_b2E hf
        refine jr_callM (st := []) lk_X8_189_23 (wX8_bad v12 (2 : Int32) (1 : Int32) hT S8 h14) tm_k23 rfl rfl rfl (so_le rfl) (so_le rfl) dX8_there_42 ?_
        refine jr_if_eq (tgt := 50) dX8_there_45 rfl (fun c17 => ?_) (fun c17 => ?_)
        · have hf := so_t c17 hf
          refine jr_aload_n dX8_there_50 rfl rfl jv_rr ?_
          refine jr_aload_n dX8_there_51 rfl rfl jv_rr ?_
          refine tr_getR (c := 468) hT (List.mem_of_getElem? (i := 19) rfl) fl_X8_73_23 dX8_there_52 ?_
          refine jr_iload_n dX8_there_55 rfl rfl ?_
          refine jr_iload_n dX8_there_56 rfl rfl ?_
          obtain ⟨r19, h18, hf⟩ := so_b hf
          refine jr_callM (st := []) lk_X8_323_23 (wX8_amount 468 a1 a2 hT S16 (show tm_k 468 = 50 from rfl) h18) tm_k23 rfl rfl rfl (so_le rfl) (so_le rfl) dX8_there_57 ?_
          obtain ⟨rfl, rfl⟩ := so_e2 hf
          exact jr_iret rfl rfl dX8_there_60
        · have hf := so_f c17 hf
          refine jr_iconst dX8_there_48 ic_0 ?_
          obtain ⟨rfl, rfl⟩ := so_e2 hf
          exact jr_iret rfl rfl dX8_there_49
      · refine jr_if_ne (tgt := 39) dX8_there_32 rfl (fun c20 => ?_) (fun c20 => ?_)
        · have hf := so_f c20 hf
          refine jr_iconst dX8_there_39 ic_0 ?_
          exact hJ13 (0 : Int32) hf
        · have hf := so_t c20 hf
          refine jr_iconst dX8_there_35 ic_1 ?_
          refine jr_goto (tgt := 40) dX8_there_36 rfl ?_
          exact hJ13 (1 : Int32) hf
  · refine jr_if_ne (tgt := 18) dX8_there_11 rfl (fun c21 => ?_) (fun c21 => ?_)
    · have hf := so_f c21 hf
      refine jr_iconst dX8_there_18 ic_0 ?_
      exact hJ5 (0 : Int32) hf
    · have hf := so_t c21 hf
      refine jr_iconst dX8_there_14 ic_1 ?_
      refine jr_goto (tgt := 19) dX8_there_15 rfl ?_
      exact hJ5 (1 : Int32) hf

/- X8_wall -/
abbrev kX8_wall : jx_K := (cX8_wall, 3, RX8, 1, (Option.some Jvm.ClassFile.FieldType.int), "wall", [])
def fX8_wall (a1 : Int32) (a2 : Int32) (sg : tm_S) : Option (Int32 × tm_S) :=
  tm_let (tm_up sg 0 0 (0 : Int32)) fun S1 =>
  so_gd (so_in (1 : Int32) 4) fun _ =>
  so_j (κ := Int32 → Option (Int32 × tm_S)) (ρ := Option (Int32 × tm_S)) (fun (v3 : Int32) =>
  tm_b2 (fX8_bad v3 (1 : Int32) (0 : Int32) S1) fun r6 S7 =>
  if r6 = (0 : Int32) then
  (so_j (κ := Int32 → Option (Int32 × tm_S)) (ρ := Option (Int32 × tm_S)) (fun (v9 : Int32) =>
  tm_b2 (fX8_bad v9 (2 : Int32) (1 : Int32) S7) fun r12 S13 =>
  if r12 = (0 : Int32) then
  (so_gd (so_in a1 12) fun _ =>
  so_gd (so_in a2 2) fun _ =>
  some ((S13 (23 + a1.toNatClampNeg) a2.toNatClampNeg), S13))
  else
  (some ((0 : Int32), S13)))
  (fun J10 =>
  if (fX8_in a2 (0 : Int32) (1 : Int32)) = (0 : Int32) then
  (J10 (1 : Int32))
  else
  (J10 (0 : Int32))))
  else
  (some ((0 : Int32), S7)))
  (fun J4 =>
  if (fX8_in a1 (0 : Int32) ((S1 4 (1 : Int32).toNatClampNeg) - (1 : Int32))) = (0 : Int32) then
  (J4 (1 : Int32))
  else
  (J4 (0 : Int32)))
set_option maxHeartbeats 4000000 in
set_option maxRecDepth 100000 in
theorem wX8_wall {res : Int32} {sg' : tm_S} {S0 : so_St}  (a1 : Int32) (a2 : Int32) (hT : tm_Sh S0) (sg : tm_S)  (hf : fX8_wall a1 a2 sg = some (res, sg')) : jx_Sp 1 yX8_wall (ws_ yX8_wall cX8_wall 3 (Option.some Jvm.ClassFile.FieldType.int)) [.ref (tm_a 0), .int a1, .int a2] (tm_j S0 sg) (.inl (some (.int res))) (tm_j S0 sg') := by
  refine jx_of (plainFor_of_name (by decide)) (so_le rfl) ?_
  show jg_ ((tm_j S0 sg), (tm_j S0 sg'), .inl (some (.int res))) kX8_wall 0 [(0, .ref (tm_a 0)), (1, .int a1), (2, .int a2)] [] (tm_j S0 sg)
  unfold fX8_wall at hf
  refine jr_aload_n dX8_wall_0 rfl rfl jv_rr ?_
  refine jr_iconst dX8_wall_1 ic_0 ?_
  refine tr_putI fp_X8_106_23 dX8_wall_2 ?_
  refine tm_let_e hf (fun S1 hf => ?_)
  refine jr_aload_n dX8_wall_5 rfl rfl jv_rr ?_
  refine jr_iload_n dX8_wall_6 rfl rfl ?_
  refine jr_iconst dX8_wall_7 ic_0 ?_
  refine jr_aload_n dX8_wall_8 rfl rfl jv_rr ?_
  refine tr_getR (c := 4) hT (List.mem_of_getElem? (i := 3) rfl) fl_X8_23_23 dX8_wall_9 ?_
  refine jr_iconst dX8_wall_12 ic_1 ?_
  obtain ⟨g2, hf⟩ := so_gdE hf
  refine tr_iaload hT (show tm_k 4 = 50 from rfl) rfl (so_inE g2) dX8_wall_13 ?_
  refine jr_iconst dX8_wall_14 ic_1 ?_
  refine jr_isub dX8_wall_15 ?_
  refine jr_call (st := [.ref (tm_a 0)]) lk_X8_140 (wX8_in a1 (0 : Int32) ((S1 4 (1 : Int32).toNatClampNeg) - (1 : Int32)) hT S1 rfl) jk_r0 rfl rfl (so_le rfl) (so_le rfl) dX8_wall_16 ?_
  refine so_jE hf (fun J => ∀ (v3 : Int32), J v3 = some (res, sg') → jg_ (tm_j S0 sg, tm_j S0 sg', .inl (some (.int res))) kX8_wall 27 [(0, .ref (tm_a 0)), (1, .int a1), (2, .int a2)] [.int v3, .ref (tm_a 0)] (tm_j S0 S1)) (fun v3 hf => ?_) (fun J4 hJ4 hf => ?_)
  · refine jr_iconst dX8_wall_27 ic_1 ?_
    refine jr_iconst dX8_wall_28 ic_0 ?_
    obtain ⟨r6, S7, h5, hf⟩ := tm_b2E hf
    refine jr_callM (st := []) lk_X8_189_23 (wX8_bad v3 (1 : Int32) (0 : Int32) hT S1 h5) tm_k23 rfl rfl rfl (so_le rfl) (so_le rfl) dX8_wall_29 ?_
    refine jr_if_ne (tgt := 58) dX8_wall_32 rfl (fun c8 => ?_) (fun c8 => ?_)
    · have hf := so_f c8 hf
      refine jr_iconst dX8_wall_58 ic_0 ?_
      obtain ⟨rfl, rfl⟩ := so_e2 hf
      exact jr_iret rfl rfl dX8_wall_59
    · have hf := so_t c8 hf
      refine jr_aload_n dX8_wall_35 rfl rfl jv_rr ?_
      refine jr_iload_n dX8_wall_36 rfl rfl ?_
      refine jr_iconst dX8_wall_37 ic_0 ?_
      refine jr_iconst dX8_wall_38 ic_1 ?_
      refine jr_call (st := [.ref (tm_a 0)]) lk_X8_140 (wX8_in a2 (0 : Int32) (1 : Int32) hT S7 rfl) jk_r0 rfl rfl (so_le rfl) (so_le rfl) dX8_wall_39 ?_
      refine so_jE hf (fun J => ∀ (v9 : Int32), J v9 = some (res, sg') → jg_ (tm_j S0 sg, tm_j S0 sg', .inl (some (.int res))) kX8_wall 50 [(0, .ref (tm_a 0)), (1, .int a1), (2, .int a2)] [.int v9, .ref (tm_a 0)] (tm_j S0 S7)) (fun v9 hf => ?_) (fun J10 hJ10 hf => ?_)
      · refine jr_iconst dX8_wall_50 ic_2 ?_
        refine jr_iconst dX8_wall_51 ic_1 ?_
        obtain ⟨r12, S13, h11, hf⟩ := tm_b2E hf
        refine jr_callM (st := []) lk_X8_189_23 (wX8_bad v9 (2 : Int32) (1 : Int32) hT S7 h11) tm_k23 rfl rfl rfl (so_le rfl) (so_le rfl) dX8_wall_52 ?_
        refine jr_if_eq (tgt := 60) dX8_wall_55 rfl (fun c14 => ?_) (fun c14 => ?_)
        · have hf := so_t c14 hf
          refine jr_aload_n dX8_wall_60 rfl rfl jv_rr ?_
          refine tr_getR (c := 22) hT (List.mem_of_getElem? (i := 9) rfl) fl_X8_43_23 dX8_wall_61 ?_
          refine jr_iload_n dX8_wall_64 rfl rfl ?_
          obtain ⟨g15, hf⟩ := so_gdE hf
          refine tr_aaload (g' := 23) hT (show tm_k 22 = 56 from rfl) rfl rfl (so_inE g15) dX8_wall_65 ?_
          refine jr_iload_n dX8_wall_66 rfl rfl ?_
          obtain ⟨g16, hf⟩ := so_gdE hf
          refine tr_iaload hT (tm_rk_22 (so_inE g15)) (tm_rl_22 (so_inE g15)) (so_inE g16) dX8_wall_67 ?_
          obtain ⟨rfl, rfl⟩ := so_e2 hf
          exact jr_iret rfl rfl dX8_wall_68
        · have hf := so_f c14 hf
          refine jr_iconst dX8_wall_58 ic_0 ?_
          obtain ⟨rfl, rfl⟩ := so_e2 hf
          exact jr_iret rfl rfl dX8_wall_59
      · refine jr_if_ne (tgt := 49) dX8_wall_42 rfl (fun c17 => ?_) (fun c17 => ?_)
        · have hf := so_f c17 hf
          refine jr_iconst dX8_wall_49 ic_0 ?_
          exact hJ10 (0 : Int32) hf
        · have hf := so_t c17 hf
          refine jr_iconst dX8_wall_45 ic_1 ?_
          refine jr_goto (tgt := 50) dX8_wall_46 rfl ?_
          exact hJ10 (1 : Int32) hf
  · refine jr_if_ne (tgt := 26) dX8_wall_19 rfl (fun c18 => ?_) (fun c18 => ?_)
    · have hf := so_f c18 hf
      refine jr_iconst dX8_wall_26 ic_0 ?_
      exact hJ4 (0 : Int32) hf
    · have hf := so_t c18 hf
      refine jr_iconst dX8_wall_22 ic_1 ?_
      refine jr_goto (tgt := 27) dX8_wall_23 rfl ?_
      exact hJ4 (1 : Int32) hf

/- X8_isPiano -/
abbrev kX8_isPiano : jx_K := (cX8_isPiano, 2, RX8, 1, (Option.some Jvm.ClassFile.FieldType.boolean), "isPiano", [])
def fX8_isPiano (a1 : Int32) (sg : tm_S) : Option Int32 :=
  so_gd (so_in (2 : Int32) 4) fun _ =>
  so_gd (so_01 (fX8_in a1 (0 : Int32) ((sg 4 (2 : Int32).toNatClampNeg) - (1 : Int32)))) fun _ =>
  some (fX8_in a1 (0 : Int32) ((sg 4 (2 : Int32).toNatClampNeg) - (1 : Int32)))
set_option maxHeartbeats 4000000 in
set_option maxRecDepth 100000 in
theorem wX8_isPiano {res : Int32} {S0 : so_St}  (a1 : Int32) (hT : tm_Sh S0) (sg : tm_S)  (hf : fX8_isPiano a1 sg = some res) : jx_Sp 1 yX8_isPiano (ws_ yX8_isPiano cX8_isPiano 2 (Option.some Jvm.ClassFile.FieldType.boolean)) [.ref (tm_a 0), .int a1] (tm_j S0 sg) (.inl (some (.int res))) (tm_j S0 sg) := by
  refine jx_of (plainFor_of_name (by decide)) (so_le rfl) ?_
  show jg_ ((tm_j S0 sg), (tm_j S0 sg), .inl (some (.int res))) kX8_isPiano 0 [(0, .ref (tm_a 0)), (1, .int a1)] [] (tm_j S0 sg)
  unfold fX8_isPiano at hf
  refine jr_iload_n dX8_isPiano_0 rfl rfl ?_
  refine jr_iconst dX8_isPiano_1 ic_0 ?_
  refine jr_aload_n dX8_isPiano_2 rfl rfl jv_rr ?_
  refine tr_getR (c := 4) hT (List.mem_of_getElem? (i := 3) rfl) fl_X8_23_23 dX8_isPiano_3 ?_
  refine jr_iconst dX8_isPiano_6 ic_2 ?_
  obtain ⟨g1, hf⟩ := so_gdE hf
  refine tr_iaload hT (show tm_k 4 = 50 from rfl) rfl (so_inE g1) dX8_isPiano_7 ?_
  refine jr_iconst dX8_isPiano_8 ic_1 ?_
  refine jr_isub dX8_isPiano_9 ?_
  refine jr_call (st := []) lk_X8_140 (wX8_in a1 (0 : Int32) ((sg 4 (2 : Int32).toNatClampNeg) - (1 : Int32)) hT sg rfl) jk_r0 rfl rfl (so_le rfl) (so_le rfl) dX8_isPiano_10 ?_
  obtain ⟨g2, hf⟩ := so_gdE hf
  obtain rfl := so_e1 hf
  exact jr_iret rfl (so_01n (so_01E g2)) dX8_isPiano_13

/- X8_piano -/
abbrev kX8_piano : jx_K := (cX8_piano, 3, RX8, 7, (Option.some Jvm.ClassFile.FieldType.int), "piano", [])
def fX8_piano (a1 : Int32) (a2 : Int32) (sg : tm_S) : Option (Int32 × tm_S) :=
  tm_let (tm_up sg 0 0 (0 : Int32)) fun S1 =>
  (fX8_isPiano a1 S1).bind fun r3 =>
  so_j (κ := Int32 → Option (Int32 × tm_S)) (ρ := Option (Int32 × tm_S)) (fun (v4 : Int32) =>
  tm_b2 (fX8_bad v4 (1 : Int32) (0 : Int32) S1) fun r7 S8 =>
  if r7 = (0 : Int32) then
  (so_j (κ := Int32 → Option (Int32 × tm_S)) (ρ := Option (Int32 × tm_S)) (fun (v10 : Int32) =>
  tm_b2 (fX8_bad v10 (2 : Int32) (1 : Int32) S8) fun r13 S14 =>
  if r13 = (0 : Int32) then
  (so_j (κ := Unit → Option (Int32 × tm_S)) (ρ := Option (Int32 × tm_S)) (fun (_u : Unit) =>
  so_gd (so_in a1 6) fun _ =>
  so_gd (so_in a2 2) fun _ =>
  some ((S14 (43 + a1.toNatClampNeg) a2.toNatClampNeg), S14))
  (fun J16 =>
  if a2 = (0 : Int32) then
  (J16 ())
  else
  if a2 = (1 : Int32) then
  (J16 ())
  else
  if a2 = (2 : Int32) then
  (so_gd (so_in ((80 : Int32) + a1) 100) fun _ =>
  some ((S14 468 ((80 : Int32) + a1).toNatClampNeg), S14))
  else
  if a2 = (3 : Int32) then
  (so_gd (so_in ((86 : Int32) + a1) 100) fun _ =>
  some ((S14 468 ((86 : Int32) + a1).toNatClampNeg), S14))
  else
  if a2 = (4 : Int32) then
  (so_gd (so_in ((92 : Int32) + a1) 100) fun _ =>
  some ((S14 468 ((92 : Int32) + a1).toNatClampNeg), S14))
  else
  if a2 = (5 : Int32) then
  (tm_b2 (fX8_forceOf 468 a1 S14) fun r29 S30 =>
  some (r29, S30))
  else
  if a2 = (6 : Int32) then
  (tm_b2 (fX8_brings 468 a1 S14) fun r33 S34 =>
  some (r33, S34))
  else
  ((fX8_fightsOf 468 a1 S14).bind fun r36 =>
  some (r36, S14))))
  else
  (some ((0 : Int32), S14)))
  (fun J11 =>
  if (fX8_in a2 (0 : Int32) (7 : Int32)) = (0 : Int32) then
  (J11 (1 : Int32))
  else
  (J11 (0 : Int32))))
  else
  (some ((0 : Int32), S8)))
  (fun J5 =>
  if r3 = (0 : Int32) then
  (J5 (1 : Int32))
  else
  (J5 (0 : Int32)))
set_option maxHeartbeats 4000000 in
set_option maxRecDepth 100000 in
theorem wX8_piano {res : Int32} {sg' : tm_S} {S0 : so_St}  (a1 : Int32) (a2 : Int32) (hT : tm_Sh S0) (sg : tm_S)  (hf : fX8_piano a1 a2 sg = some (res, sg')) : jx_Sp 7 yX8_piano (ws_ yX8_piano cX8_piano 3 (Option.some Jvm.ClassFile.FieldType.int)) [.ref (tm_a 0), .int a1, .int a2] (tm_j S0 sg) (.inl (some (.int res))) (tm_j S0 sg') := by
  refine jx_of (plainFor_of_name (by decide)) (so_le rfl) ?_
  show jg_ ((tm_j S0 sg), (tm_j S0 sg'), .inl (some (.int res))) kX8_piano 0 [(0, .ref (tm_a 0)), (1, .int a1), (2, .int a2)] [] (tm_j S0 sg)
  unfold fX8_piano at hf
  refine jr_aload_n dX8_piano_0 rfl rfl jv_rr ?_
  refine jr_iconst dX8_piano_1 ic_0 ?_
  refine tr_putI fp_X8_106_23 dX8_piano_2 ?_
  refine tm_let_e hf (fun S1 hf => ?_)
  refine jr_aload_n dX8_piano_5 rfl rfl jv_rr ?_
  refine jr_aload_n dX8_piano_6 rfl rfl jv_rr ?_
  refine jr_iload_n dX8_piano_7 rfl rfl ?_
  obtain ⟨r3, h2, hf⟩ := so_b hf
  refine jr_callM (st := [.ref (tm_a 0)]) lk_X8_345_23 (wX8_isPiano a1 hT S1 h2) tm_k23 rfl rfl rfl (so_le rfl) (so_le rfl) dX8_piano_8 ?_
  refine so_jE hf (fun J => ∀ (v4 : Int32), J v4 = some (res, sg') → jg_ (tm_j S0 sg, tm_j S0 sg', .inl (some (.int res))) kX8_piano 19 [(0, .ref (tm_a 0)), (1, .int a1), (2, .int a2)] [.int v4, .ref (tm_a 0)] (tm_j S0 S1)) (fun v4 hf => ?_) (fun J5 hJ5 hf => ?_)
  · refine jr_iconst dX8_piano_19 ic_1 ?_
    refine jr_iconst dX8_piano_20 ic_0 ?_
    obtain ⟨r7, S8, h6, hf⟩ := tm_b2E hf
    refine jr_callM (st := []) lk_X8_189_23 (wX8_bad v4 (1 : Int32) (0 : Int32) hT S1 h6) tm_k23 rfl rfl rfl (so_le rfl) (so_le rfl) dX8_piano_21 ?_
    refine jr_if_ne (tgt := 51) dX8_piano_24 rfl (fun c9 => ?_) (fun c9 => ?_)
    · have hf := so_f c9 hf
      refine jr_iconst dX8_piano_51 ic_0 ?_
      obtain ⟨rfl, rfl⟩ := so_e2 hf
      exact jr_iret rfl rfl dX8_piano_52
    · have hf := so_t c9 hf
      refine jr_aload_n dX8_piano_27 rfl rfl jv_rr ?_
      refine jr_iload_n dX8_piano_28 rfl rfl ?_
      refine jr_iconst dX8_piano_29 ic_0 ?_
      refine jr_bipush dX8_piano_30 bp_7 ?_
      refine jr_call (st := [.ref (tm_a 0)]) lk_X8_140 (wX8_in a2 (0 : Int32) (7 : Int32) hT S8 rfl) jk_r0 rfl rfl (so_le rfl) (so_le rfl) dX8_piano_32 ?_
      refine so_jE hf (fun J => ∀ (v10 : Int32), J v10 = some (res, sg') → jg_ (tm_j S0 sg, tm_j S0 sg', .inl (some (.int res))) kX8_piano 43 [(0, .ref (tm_a 0)), (1, .int a1), (2, .int a2)] [.int v10, .ref (tm_a 0)] (tm_j S0 S8)) (fun v10 hf => ?_) (fun J11 hJ11 hf => ?_)
      · refine jr_iconst dX8_piano_43 ic_2 ?_
        refine jr_iconst dX8_piano_44 ic_1 ?_
        obtain ⟨r13, S14, h12, hf⟩ := tm_b2E hf
        refine jr_callM (st := []) lk_X8_189_23 (wX8_bad v10 (2 : Int32) (1 : Int32) hT S8 h12) tm_k23 rfl rfl rfl (so_le rfl) (so_le rfl) dX8_piano_45 ?_
        refine jr_if_eq (tgt := 53) dX8_piano_48 rfl (fun c15 => ?_) (fun c15 => ?_)
        · have hf := so_t c15 hf
          refine jr_iload_n dX8_piano_53 rfl rfl ?_
          refine so_jE hf (fun J => ∀ (u0 : Unit), J u0 = some (res, sg') → jg_ (tm_j S0 sg, tm_j S0 sg', .inl (some (.int res))) kX8_piano 96 [(0, .ref (tm_a 0)), (1, .int a1), (2, .int a2)] [] (tm_j S0 S14)) (fun _u hf => ?_) (fun J16 hJ16 hf => ?_)
          · refine jr_aload_n dX8_piano_96 rfl rfl jv_rr ?_
            refine tr_getR (c := 42) hT (List.mem_of_getElem? (i := 11) rfl) fl_X8_49_23 dX8_piano_97 ?_
            refine jr_iload_n dX8_piano_100 rfl rfl ?_
            obtain ⟨g17, hf⟩ := so_gdE hf
            refine tr_aaload (g' := 43) hT (show tm_k 42 = 56 from rfl) rfl rfl (so_inE g17) dX8_piano_101 ?_
            refine jr_iload_n dX8_piano_102 rfl rfl ?_
            obtain ⟨g18, hf⟩ := so_gdE hf
            refine tr_iaload hT (tm_rk_42 (so_inE g17)) (tm_rl_42 (so_inE g17)) (so_inE g18) dX8_piano_103 ?_
            obtain ⟨rfl, rfl⟩ := so_e2 hf
            exact jr_iret rfl rfl dX8_piano_104
          · by_cases c19 : a2 = (0 : Int32)
            · have hf := so_t c19 hf
              refine jr_tsIn (tgt := 96) (0 : Int32) c19 dX8_piano_54 (by decide) (by decide) rfl rfl ?_
              exact hJ16 () hf
            · have hf := so_f c19 hf
              by_cases c20 : a2 = (1 : Int32)
              · have hf := so_t c20 hf
                refine jr_tsIn (tgt := 96) (1 : Int32) c20 dX8_piano_54 (by decide) (by decide) rfl rfl ?_
                exact hJ16 () hf
              · have hf := so_f c20 hf
                by_cases c21 : a2 = (2 : Int32)
                · have hf := so_t c21 hf
                  refine jr_tsIn (tgt := 105) (2 : Int32) c21 dX8_piano_54 (by decide) (by decide) rfl rfl ?_
                  refine jr_aload_n dX8_piano_105 rfl rfl jv_rr ?_
                  refine tr_getR (c := 468) hT (List.mem_of_getElem? (i := 19) rfl) fl_X8_73_23 dX8_piano_106 ?_
                  refine jr_bipush dX8_piano_109 bp_80 ?_
                  refine jr_iload_n dX8_piano_111 rfl rfl ?_
                  refine jr_iadd dX8_piano_112 ?_
                  obtain ⟨g22, hf⟩ := so_gdE hf
                  refine tr_iaload hT (show tm_k 468 = 50 from rfl) rfl (so_inE g22) dX8_piano_113 ?_
                  obtain ⟨rfl, rfl⟩ := so_e2 hf
                  exact jr_iret rfl rfl dX8_piano_114
                · have hf := so_f c21 hf
                  by_cases c23 : a2 = (3 : Int32)
                  · have hf := so_t c23 hf
                    refine jr_tsIn (tgt := 115) (3 : Int32) c23 dX8_piano_54 (by decide) (by decide) rfl rfl ?_
                    refine jr_aload_n dX8_piano_115 rfl rfl jv_rr ?_
                    refine tr_getR (c := 468) hT (List.mem_of_getElem? (i := 19) rfl) fl_X8_73_23 dX8_piano_116 ?_
                    refine jr_bipush dX8_piano_119 bp_86 ?_
                    refine jr_iload_n dX8_piano_121 rfl rfl ?_
                    refine jr_iadd dX8_piano_122 ?_
                    obtain ⟨g24, hf⟩ := so_gdE hf
                    refine tr_iaload hT (show tm_k 468 = 50 from rfl) rfl (so_inE g24) dX8_piano_123 ?_
                    obtain ⟨rfl, rfl⟩ := so_e2 hf
                    exact jr_iret rfl rfl dX8_piano_124
                  · have hf := so_f c23 hf
                    by_cases c25 : a2 = (4 : Int32)
                    · have hf := so_t c25 hf
                      refine jr_tsIn (tgt := 125) (4 : Int32) c25 dX8_piano_54 (by decide) (by decide) rfl rfl ?_
                      refine jr_aload_n dX8_piano_125 rfl rfl jv_rr ?_
                      refine tr_getR (c := 468) hT (List.mem_of_getElem? (i := 19) rfl) fl_X8_73_23 dX8_piano_126 ?_
                      refine jr_bipush dX8_piano_129 bp_92 ?_
                      refine jr_iload_n dX8_piano_131 rfl rfl ?_
                      refine jr_iadd dX8_piano_132 ?_
                      obtain ⟨g26, hf⟩ := so_gdE hf
                      refine tr_iaload hT (show tm_k 468 = 50 from rfl) rfl (so_inE g26) dX8_piano_133 ?_
                      obtain ⟨rfl, rfl⟩ := so_e2 hf
                      exact jr_iret rfl rfl dX8_piano_134
                    · have hf := so_f c25 hf
                      by_cases c27 : a2 = (5 : Int32)
                      · have hf := so_t c27 hf
                        refine jr_tsIn (tgt := 135) (5 : Int32) c27 dX8_piano_54 (by decide) (by decide) rfl rfl ?_
                        refine jr_aload_n dX8_piano_135 rfl rfl jv_rr ?_
                        refine jr_aload_n dX8_piano_136 rfl rfl jv_rr ?_
                        refine tr_getR (c := 468) hT (List.mem_of_getElem? (i := 19) rfl) fl_X8_73_23 dX8_piano_137 ?_
                        refine jr_iload_n dX8_piano_140 rfl rfl ?_
                        obtain ⟨r29, S30, h28, hf⟩ := tm_b2E hf
                        refine jr_callM (st := []) lk_X8_286_23 (wX8_forceOf 468 a1 hT S14 (show tm_k 468 = 50 from rfl) h28) tm_k23 rfl rfl rfl (so_le rfl) (so_le rfl) dX8_piano_141 ?_
                        obtain ⟨rfl, rfl⟩ := so_e2 hf
                        exact jr_iret rfl rfl dX8_piano_144
                      · have hf := so_f c27 hf
                        by_cases c31 : a2 = (6 : Int32)
                        · have hf := so_t c31 hf
                          refine jr_tsIn (tgt := 145) (6 : Int32) c31 dX8_piano_54 (by decide) (by decide) rfl rfl ?_
                          refine jr_aload_n dX8_piano_145 rfl rfl jv_rr ?_
                          refine jr_aload_n dX8_piano_146 rfl rfl jv_rr ?_
                          refine tr_getR (c := 468) hT (List.mem_of_getElem? (i := 19) rfl) fl_X8_73_23 dX8_piano_147 ?_
                          refine jr_iload_n dX8_piano_150 rfl rfl ?_
                          obtain ⟨r33, S34, h32, hf⟩ := tm_b2E hf
                          refine jr_callM (st := []) lk_X8_296_23 (wX8_brings 468 a1 hT S14 (show tm_k 468 = 50 from rfl) h32) tm_k23 rfl rfl rfl (so_le rfl) (so_le rfl) dX8_piano_151 ?_
                          obtain ⟨rfl, rfl⟩ := so_e2 hf
                          exact jr_iret rfl rfl dX8_piano_154
                        · have hf := so_f c31 hf
                          refine jr_tsOut (tgt := 155) [(0 : Int32), (1 : Int32), (2 : Int32), (3 : Int32), (4 : Int32), (5 : Int32), (6 : Int32)] (by decide) (List.forall_mem_cons.mpr ⟨c19, List.forall_mem_cons.mpr ⟨c20, List.forall_mem_cons.mpr ⟨c21, List.forall_mem_cons.mpr ⟨c23, List.forall_mem_cons.mpr ⟨c25, List.forall_mem_cons.mpr ⟨c27, List.forall_mem_cons.mpr ⟨c31, fun _ h => by cases h⟩⟩⟩⟩⟩⟩⟩) dX8_piano_54 rfl ?_
                          refine jr_aload_n dX8_piano_155 rfl rfl jv_rr ?_
                          refine jr_aload_n dX8_piano_156 rfl rfl jv_rr ?_
                          refine tr_getR (c := 468) hT (List.mem_of_getElem? (i := 19) rfl) fl_X8_73_23 dX8_piano_157 ?_
                          refine jr_iload_n dX8_piano_160 rfl rfl ?_
                          obtain ⟨r36, h35, hf⟩ := so_b hf
                          refine jr_callM (st := []) lk_X8_329_23 (wX8_fightsOf 468 a1 hT S14 (show tm_k 468 = 50 from rfl) h35) tm_k23 rfl rfl rfl (so_le rfl) (so_le rfl) dX8_piano_161 ?_
                          obtain ⟨rfl, rfl⟩ := so_e2 hf
                          exact jr_iret rfl rfl dX8_piano_164
        · have hf := so_f c15 hf
          refine jr_iconst dX8_piano_51 ic_0 ?_
          obtain ⟨rfl, rfl⟩ := so_e2 hf
          exact jr_iret rfl rfl dX8_piano_52
      · refine jr_if_ne (tgt := 42) dX8_piano_35 rfl (fun c37 => ?_) (fun c37 => ?_)
        · have hf := so_f c37 hf
          refine jr_iconst dX8_piano_42 ic_0 ?_
          exact hJ11 (0 : Int32) hf
        · have hf := so_t c37 hf
          refine jr_iconst dX8_piano_38 ic_1 ?_
          refine jr_goto (tgt := 43) dX8_piano_39 rfl ?_
          exact hJ11 (1 : Int32) hf
  · refine jr_if_ne (tgt := 18) dX8_piano_11 rfl (fun c38 => ?_) (fun c38 => ?_)
    · have hf := so_f c38 hf
      refine jr_iconst dX8_piano_18 ic_0 ?_
      exact hJ5 (0 : Int32) hf
    · have hf := so_t c38 hf
      refine jr_iconst dX8_piano_14 ic_1 ?_
      refine jr_goto (tgt := 19) dX8_piano_15 rfl ?_
      exact hJ5 (1 : Int32) hf

/- X8_would -/
abbrev kX8_would : jx_K := (cX8_would, 9, RX8, 4, (Option.some Jvm.ClassFile.FieldType.int), "would", [])
def fX8_would (a1 : Int32) (a2 : Int32) (a3 : Int32) (a4 : Int32) (a5 : Int32) (a6 : Int32) (a7 : Int32) (a8 : Int32) (sg : tm_S) : Option (Int32 × tm_S) :=
  tm_let (tm_up sg 0 0 (0 : Int32)) fun S1 =>
  so_j (κ := Int32 → Option (Int32 × tm_S)) (ρ := Option (Int32 × tm_S)) (fun (v2 : Int32) =>
  tm_b2 (fX8_bad v2 (1 : Int32) (1 : Int32) S1) fun r5 S6 =>
  if r5 = (0 : Int32) then
  (tm_b2 (fX8_forceBy a1 a2 a3 a4 a5 a6 a7 a8 S6) fun r9 S10 =>
  some (r9, S10))
  else
  (some ((0 : Int32), S6)))
  (fun J3 =>
  so_j (κ := Unit → Option (Int32 × tm_S)) (ρ := Option (Int32 × tm_S)) (fun (_u : Unit) =>
  J3 (1 : Int32))
  (fun J11 =>
  if (fX8_in a1 (1 : Int32) (9 : Int32)) = (0 : Int32) then
  (J11 ())
  else
  (if (fX8_in a2 (0 : Int32) (9 : Int32)) = (0 : Int32) then
  (J11 ())
  else
  (if (fX8_in a3 (0 : Int32) (999 : Int32)) = (0 : Int32) then
  (J11 ())
  else
  (if (fX8_in a4 (0 : Int32) (99 : Int32)) = (0 : Int32) then
  (J11 ())
  else
  ((fX8_isThing a5 S1).bind fun r17 =>
  if r17 = (0 : Int32) then
  (J11 ())
  else
  (if (fX8_in a6 (0 : Int32) (5 : Int32)) = (0 : Int32) then
  (J11 ())
  else
  (if (fX8_in a7 (0 : Int32) (7 : Int32)) = (0 : Int32) then
  (J11 ())
  else
  (if (fX8_in a8 (0 : Int32) (500 : Int32)) = (0 : Int32) then
  (J11 ())
  else
  (J3 (0 : Int32)))))))))))
set_option maxHeartbeats 4000000 in
set_option maxRecDepth 100000 in
theorem wX8_would {res : Int32} {sg' : tm_S} {S0 : so_St}  (a1 : Int32) (a2 : Int32) (a3 : Int32) (a4 : Int32) (a5 : Int32) (a6 : Int32) (a7 : Int32) (a8 : Int32) (hT : tm_Sh S0) (sg : tm_S)  (hf : fX8_would a1 a2 a3 a4 a5 a6 a7 a8 sg = some (res, sg')) : jx_Sp 4 yX8_would (ws_ yX8_would cX8_would 9 (Option.some Jvm.ClassFile.FieldType.int)) [.ref (tm_a 0), .int a1, .int a2, .int a3, .int a4, .int a5, .int a6, .int a7, .int a8] (tm_j S0 sg) (.inl (some (.int res))) (tm_j S0 sg') := by
  refine jx_of (plainFor_of_name (by decide)) (so_le rfl) ?_
  show jg_ ((tm_j S0 sg), (tm_j S0 sg'), .inl (some (.int res))) kX8_would 0 [(0, .ref (tm_a 0)), (1, .int a1), (2, .int a2), (3, .int a3), (4, .int a4), (5, .int a5), (6, .int a6), (7, .int a7), (8, .int a8)] [] (tm_j S0 sg)
  unfold fX8_would at hf
  refine jr_aload_n dX8_would_0 rfl rfl jv_rr ?_
  refine jr_iconst dX8_would_1 ic_0 ?_
  refine tr_putI fp_X8_106_23 dX8_would_2 ?_
  refine tm_let_e hf (fun S1 hf => ?_)
  refine jr_aload_n dX8_would_5 rfl rfl jv_rr ?_
  refine jr_iload_n dX8_would_6 rfl rfl ?_
  refine jr_iconst dX8_would_7 ic_1 ?_
  refine jr_bipush dX8_would_8 bp_9 ?_
  refine jr_call (st := [.ref (tm_a 0)]) lk_X8_140 (wX8_in a1 (1 : Int32) (9 : Int32) hT S1 rfl) jk_r0 rfl rfl (so_le rfl) (so_le rfl) dX8_would_10 ?_
  refine so_jE hf (fun J => ∀ (v2 : Int32), J v2 = some (res, sg') → jg_ (tm_j S0 sg, tm_j S0 sg', .inl (some (.int res))) kX8_would 94 [(0, .ref (tm_a 0)), (1, .int a1), (2, .int a2), (3, .int a3), (4, .int a4), (5, .int a5), (6, .int a6), (7, .int a7), (8, .int a8)] [.int v2, .ref (tm_a 0)] (tm_j S0 S1)) (fun v2 hf => ?_) (fun J3 hJ3 hf => ?_)
  · refine jr_iconst dX8_would_94 ic_1 ?_
    refine jr_iconst dX8_would_95 ic_1 ?_
    obtain ⟨r5, S6, h4, hf⟩ := tm_b2E hf
    refine jr_callM (st := []) lk_X8_189_23 (wX8_bad v2 (1 : Int32) (1 : Int32) hT S1 h4) tm_k23 rfl rfl rfl (so_le rfl) (so_le rfl) dX8_would_96 ?_
    refine jr_if_eq (tgt := 104) dX8_would_99 rfl (fun c7 => ?_) (fun c7 => ?_)
    · have hf := so_t c7 hf
      refine jr_aload_n dX8_would_104 rfl rfl jv_rr ?_
      refine jr_iload_n dX8_would_105 rfl rfl ?_
      refine jr_iload_n dX8_would_106 rfl rfl ?_
      refine jr_iload_n dX8_would_107 rfl rfl ?_
      refine jr_iload dX8_would_108 rfl ?_
      refine jr_iload dX8_would_110 rfl ?_
      refine jr_iload dX8_would_112 rfl ?_
      refine jr_iload dX8_would_114 rfl ?_
      refine jr_iload dX8_would_116 rfl ?_
      obtain ⟨r9, S10, h8, hf⟩ := tm_b2E hf
      refine jr_callM (st := []) lk_X8_278_23 (wX8_forceBy a1 a2 a3 a4 a5 a6 a7 a8 hT S6 h8) tm_k23 rfl rfl rfl (so_le rfl) (so_le rfl) dX8_would_118 ?_
      obtain ⟨rfl, rfl⟩ := so_e2 hf
      exact jr_iret rfl rfl dX8_would_121
    · have hf := so_f c7 hf
      refine jr_iconst dX8_would_102 ic_0 ?_
      obtain ⟨rfl, rfl⟩ := so_e2 hf
      exact jr_iret rfl rfl dX8_would_103
  · refine so_jE hf (fun J => ∀ (u0 : Unit), J u0 = some (res, sg') → jg_ (tm_j S0 sg, tm_j S0 sg', .inl (some (.int res))) kX8_would 89 [(0, .ref (tm_a 0)), (1, .int a1), (2, .int a2), (3, .int a3), (4, .int a4), (5, .int a5), (6, .int a6), (7, .int a7), (8, .int a8)] [.ref (tm_a 0)] (tm_j S0 S1)) (fun _u hf => ?_) (fun J11 hJ11 hf => ?_)
    · refine jr_iconst dX8_would_89 ic_1 ?_
      refine jr_goto (tgt := 94) dX8_would_90 rfl ?_
      exact hJ3 (1 : Int32) hf
    · refine jr_if_eq (tgt := 89) dX8_would_13 rfl (fun c12 => ?_) (fun c12 => ?_)
      · have hf := so_t c12 hf
        exact hJ11 () hf
      · have hf := so_f c12 hf
        refine jr_iload_n dX8_would_16 rfl rfl ?_
        refine jr_iconst dX8_would_17 ic_0 ?_
        refine jr_bipush dX8_would_18 bp_9 ?_
        refine jr_call (st := [.ref (tm_a 0)]) lk_X8_140 (wX8_in a2 (0 : Int32) (9 : Int32) hT S1 rfl) jk_r0 rfl rfl (so_le rfl) (so_le rfl) dX8_would_20 ?_
        refine jr_if_eq (tgt := 89) dX8_would_23 rfl (fun c13 => ?_) (fun c13 => ?_)
        · have hf := so_t c13 hf
          exact hJ11 () hf
        · have hf := so_f c13 hf
          refine jr_iload_n dX8_would_26 rfl rfl ?_
          refine jr_iconst dX8_would_27 ic_0 ?_
          refine jr_sipush dX8_would_28 sp_999 ?_
          refine jr_call (st := [.ref (tm_a 0)]) lk_X8_140 (wX8_in a3 (0 : Int32) (999 : Int32) hT S1 rfl) jk_r0 rfl rfl (so_le rfl) (so_le rfl) dX8_would_31 ?_
          refine jr_if_eq (tgt := 89) dX8_would_34 rfl (fun c14 => ?_) (fun c14 => ?_)
          · have hf := so_t c14 hf
            exact hJ11 () hf
          · have hf := so_f c14 hf
            refine jr_iload dX8_would_37 rfl ?_
            refine jr_iconst dX8_would_39 ic_0 ?_
            refine jr_bipush dX8_would_40 bp_99 ?_
            refine jr_call (st := [.ref (tm_a 0)]) lk_X8_140 (wX8_in a4 (0 : Int32) (99 : Int32) hT S1 rfl) jk_r0 rfl rfl (so_le rfl) (so_le rfl) dX8_would_42 ?_
            refine jr_if_eq (tgt := 89) dX8_would_45 rfl (fun c15 => ?_) (fun c15 => ?_)
            · have hf := so_t c15 hf
              exact hJ11 () hf
            · have hf := so_f c15 hf
              refine jr_iload dX8_would_48 rfl ?_
              obtain ⟨r17, h16, hf⟩ := so_b hf
              refine jr_call (st := [.ref (tm_a 0)]) lk_X8_342 (wX8_isThing a5 hT S1 h16) jk_r0 rfl rfl (so_le rfl) (so_le rfl) dX8_would_50 ?_
              refine jr_if_eq (tgt := 89) dX8_would_53 rfl (fun c18 => ?_) (fun c18 => ?_)
              · have hf := so_t c18 hf
                exact hJ11 () hf
              · have hf := so_f c18 hf
                refine jr_iload dX8_would_56 rfl ?_
                refine jr_iconst dX8_would_58 ic_0 ?_
                refine jr_iconst dX8_would_59 ic_5 ?_
                refine jr_call (st := [.ref (tm_a 0)]) lk_X8_140 (wX8_in a6 (0 : Int32) (5 : Int32) hT S1 rfl) jk_r0 rfl rfl (so_le rfl) (so_le rfl) dX8_would_60 ?_
                refine jr_if_eq (tgt := 89) dX8_would_63 rfl (fun c19 => ?_) (fun c19 => ?_)
                · have hf := so_t c19 hf
                  exact hJ11 () hf
                · have hf := so_f c19 hf
                  refine jr_iload dX8_would_66 rfl ?_
                  refine jr_iconst dX8_would_68 ic_0 ?_
                  refine jr_bipush dX8_would_69 bp_7 ?_
                  refine jr_call (st := [.ref (tm_a 0)]) lk_X8_140 (wX8_in a7 (0 : Int32) (7 : Int32) hT S1 rfl) jk_r0 rfl rfl (so_le rfl) (so_le rfl) dX8_would_71 ?_
                  refine jr_if_eq (tgt := 89) dX8_would_74 rfl (fun c20 => ?_) (fun c20 => ?_)
                  · have hf := so_t c20 hf
                    exact hJ11 () hf
                  · have hf := so_f c20 hf
                    refine jr_iload dX8_would_77 rfl ?_
                    refine jr_iconst dX8_would_79 ic_0 ?_
                    refine jr_sipush dX8_would_80 sp_500 ?_
                    refine jr_call (st := [.ref (tm_a 0)]) lk_X8_140 (wX8_in a8 (0 : Int32) (500 : Int32) hT S1 rfl) jk_r0 rfl rfl (so_le rfl) (so_le rfl) dX8_would_83 ?_
                    refine jr_if_ne (tgt := 93) dX8_would_86 rfl (fun c21 => ?_) (fun c21 => ?_)
                    · have hf := so_f c21 hf
                      refine jr_iconst dX8_would_93 ic_0 ?_
                      exact hJ3 (0 : Int32) hf
                    · have hf := so_t c21 hf
                      exact hJ11 () hf

/- X8_ahead -/
abbrev kX8_ahead : jx_K := (cX8_ahead, 5, RX8, 8, (Option.some Jvm.ClassFile.FieldType.int), "ahead", [])
def LX8_ahead_76 (f1 : Int32) (f2 : Int32) (f3 : Int32) (k96 : tm_S → Option (Int32 × tm_S)) : Nat → Int32 → tm_S → Option (Int32 × tm_S)
  | 0, _, _ => none
  | n + 1, v19, S20 =>
    if f2 ≤ v19 then
    (k96 S20)
    else
    ((fX8_dayEnds 469 S20).bind fun S24 =>
    LX8_ahead_76 f1 f2 f3 k96 n (v19 + (1 : Int32)) S24)
set_option maxHeartbeats 4000000 in
set_option maxRecDepth 100000 in
theorem wX8_ahead_76 {res : Int32} {sg' : tm_S} {S0 : so_St} {sg0 : tm_S}   (f1 : Int32) (f2 : Int32) (f3 : Int32) (hT : tm_Sh S0)   (k96 : tm_S → Option (Int32 × tm_S)) (h96 : ∀ (S25 : tm_S), k96 S25 = some (res, sg') → jg_ (tm_j S0 sg0, tm_j S0 sg', .inl (some (.int res))) kX8_ahead 96 [(0, .ref (tm_a 0)), (1, .int f1), (3, .int f3)] [] (tm_j S0 S25)) : ∀ (n : Nat) (v19 : Int32) (S20 : tm_S), LX8_ahead_76 f1 f2 f3 k96 n v19 S20 = some (res, sg') → jg_ (tm_j S0 sg0, tm_j S0 sg', .inl (some (.int res))) kX8_ahead 76 [(0, .ref (tm_a 0)), (1, .int f1), (2, .int f2), (3, .int f3), (4, .int v19)] [] (tm_j S0 S20) := by
  intro n
  induction n with
  | zero =>
    intro v19 S20 hf
    exact so_no hf
  | succ n ih =>
    intro v19 S20 hf
    rw [LX8_ahead_76] at hf
    refine jr_iload dX8_ahead_76 rfl ?_
    refine jr_iload_n dX8_ahead_78 rfl rfl ?_
    refine jr_icmp_ge (tgt := 96) dX8_ahead_79 rfl (fun c21 => ?_) (fun c21 => ?_)
    · have hf := so_t c21 hf
      refine jr_sub [0, 1, 3] rfl ?_
      exact h96 S20 hf
    · have hf := so_f c21 hf
      refine jr_aload_n dX8_ahead_82 rfl rfl jv_rr ?_
      refine jr_aload_n dX8_ahead_83 rfl rfl jv_rr ?_
      refine tr_getR (c := 469) hT (List.mem_of_getElem? (i := 20) rfl) fl_X8_76_23 dX8_ahead_84 ?_
      obtain ⟨S24, h22, hf⟩ := so_b hf
      refine jr_callM (st := []) lk_X8_302_23 (wX8_dayEnds 469 hT S20 (show tm_k 469 = 50 from rfl) h22) tm_k23 rfl rfl rfl (so_le rfl) (so_le rfl) dX8_ahead_87 ?_
      refine jr_iinc (v := v19 + (1 : Int32)) (lv' := [(0, .ref (tm_a 0)), (1, .int f1), (2, .int f2), (3, .int f3), (4, .int (v19 + (1 : Int32)))]) dX8_ahead_90 rfl rfl (so_le rfl) rfl ?_
      refine jr_goto (tgt := 76) dX8_ahead_93 rfl ?_
      exact ih (v19 + (1 : Int32)) S24 hf
def fX8_ahead (a1 : Int32) (a2 : Int32) (a3 : Int32) (sg : tm_S) : Option (Int32 × tm_S) :=
  tm_let (tm_up sg 0 0 (0 : Int32)) fun S1 =>
  (fX8_isHouse a1 S1).bind fun r3 =>
  so_j (κ := Int32 → Option (Int32 × tm_S)) (ρ := Option (Int32 × tm_S)) (fun (v4 : Int32) =>
  tm_b2 (fX8_bad v4 (1 : Int32) (0 : Int32) S1) fun r7 S8 =>
  if r7 = (0 : Int32) then
  (so_j (κ := Int32 → Option (Int32 × tm_S)) (ρ := Option (Int32 × tm_S)) (fun (v10 : Int32) =>
  tm_b2 (fX8_bad v10 (2 : Int32) (1 : Int32) S8) fun r13 S14 =>
  if r13 = (0 : Int32) then
  ((fX8_copies 468 469 S14).bind fun S18 =>
  LX8_ahead_76 a1 a2 a3 (fun (S26 : tm_S) =>
  (fX8_thingOf 469 a1 S26).bind fun r28 =>
  if a3 = (0 : Int32) then
  (some (r28, S26))
  else
  ((fX8_amount 469 a1 r28 S26).bind fun r31 =>
  some (r31, S26))) so_N (0 : Int32) S18)
  else
  (some ((0 : Int32), S14)))
  (fun J11 =>
  so_j (κ := Unit → Option (Int32 × tm_S)) (ρ := Option (Int32 × tm_S)) (fun (_u : Unit) =>
  J11 (1 : Int32))
  (fun J32 =>
  if (fX8_in a2 (0 : Int32) (99 : Int32)) = (0 : Int32) then
  (J32 ())
  else
  (if (fX8_in a3 (0 : Int32) (1 : Int32)) = (0 : Int32) then
  (J32 ())
  else
  (J11 (0 : Int32))))))
  else
  (some ((0 : Int32), S8)))
  (fun J5 =>
  if r3 = (0 : Int32) then
  (J5 (1 : Int32))
  else
  (J5 (0 : Int32)))
set_option maxHeartbeats 4000000 in
set_option maxRecDepth 100000 in
theorem wX8_ahead {res : Int32} {sg' : tm_S} {S0 : so_St}  (a1 : Int32) (a2 : Int32) (a3 : Int32) (hT : tm_Sh S0) (sg : tm_S)  (hf : fX8_ahead a1 a2 a3 sg = some (res, sg')) : jx_Sp 8 yX8_ahead (ws_ yX8_ahead cX8_ahead 5 (Option.some Jvm.ClassFile.FieldType.int)) [.ref (tm_a 0), .int a1, .int a2, .int a3] (tm_j S0 sg) (.inl (some (.int res))) (tm_j S0 sg') := by
  refine jx_of (plainFor_of_name (by decide)) (so_le rfl) ?_
  show jg_ ((tm_j S0 sg), (tm_j S0 sg'), .inl (some (.int res))) kX8_ahead 0 [(0, .ref (tm_a 0)), (1, .int a1), (2, .int a2), (3, .int a3)] [] (tm_j S0 sg)
  unfold fX8_ahead at hf
  refine jr_aload_n dX8_ahead_0 rfl rfl jv_rr ?_
  refine jr_iconst dX8_ahead_1 ic_0 ?_
  refine tr_putI fp_X8_106_23 dX8_ahead_2 ?_
  refine tm_let_e hf (fun S1 hf => ?_)
  refine jr_aload_n dX8_ahead_5 rfl rfl jv_rr ?_
  refine jr_aload_n dX8_ahead_6 rfl rfl jv_rr ?_
  refine jr_iload_n dX8_ahead_7 rfl rfl ?_
  obtain ⟨r3, h2, hf⟩ := so_b hf
  refine jr_callM (st := [.ref (tm_a 0)]) lk_X8_339_23 (wX8_isHouse a1 hT S1 h2) tm_k23 rfl rfl rfl (so_le rfl) (so_le rfl) dX8_ahead_8 ?_
  refine so_jE hf (fun J => ∀ (v4 : Int32), J v4 = some (res, sg') → jg_ (tm_j S0 sg, tm_j S0 sg', .inl (some (.int res))) kX8_ahead 19 [(0, .ref (tm_a 0)), (1, .int a1), (2, .int a2), (3, .int a3)] [.int v4, .ref (tm_a 0)] (tm_j S0 S1)) (fun v4 hf => ?_) (fun J5 hJ5 hf => ?_)
  · refine jr_iconst dX8_ahead_19 ic_1 ?_
    refine jr_iconst dX8_ahead_20 ic_0 ?_
    obtain ⟨r7, S8, h6, hf⟩ := tm_b2E hf
    refine jr_callM (st := []) lk_X8_189_23 (wX8_bad v4 (1 : Int32) (0 : Int32) hT S1 h6) tm_k23 rfl rfl rfl (so_le rfl) (so_le rfl) dX8_ahead_21 ?_
    refine jr_if_ne (tgt := 60) dX8_ahead_24 rfl (fun c9 => ?_) (fun c9 => ?_)
    · have hf := so_f c9 hf
      refine jr_iconst dX8_ahead_60 ic_0 ?_
      obtain ⟨rfl, rfl⟩ := so_e2 hf
      exact jr_iret rfl rfl dX8_ahead_61
    · have hf := so_t c9 hf
      refine jr_aload_n dX8_ahead_27 rfl rfl jv_rr ?_
      refine jr_iload_n dX8_ahead_28 rfl rfl ?_
      refine jr_iconst dX8_ahead_29 ic_0 ?_
      refine jr_bipush dX8_ahead_30 bp_99 ?_
      refine jr_call (st := [.ref (tm_a 0)]) lk_X8_140 (wX8_in a2 (0 : Int32) (99 : Int32) hT S8 rfl) jk_r0 rfl rfl (so_le rfl) (so_le rfl) dX8_ahead_32 ?_
      refine so_jE hf (fun J => ∀ (v10 : Int32), J v10 = some (res, sg') → jg_ (tm_j S0 sg, tm_j S0 sg', .inl (some (.int res))) kX8_ahead 52 [(0, .ref (tm_a 0)), (1, .int a1), (2, .int a2), (3, .int a3)] [.int v10, .ref (tm_a 0)] (tm_j S0 S8)) (fun v10 hf => ?_) (fun J11 hJ11 hf => ?_)
      · refine jr_iconst dX8_ahead_52 ic_2 ?_
        refine jr_iconst dX8_ahead_53 ic_1 ?_
        obtain ⟨r13, S14, h12, hf⟩ := tm_b2E hf
        refine jr_callM (st := []) lk_X8_189_23 (wX8_bad v10 (2 : Int32) (1 : Int32) hT S8 h12) tm_k23 rfl rfl rfl (so_le rfl) (so_le rfl) dX8_ahead_54 ?_
        refine jr_if_eq (tgt := 62) dX8_ahead_57 rfl (fun c15 => ?_) (fun c15 => ?_)
        · have hf := so_t c15 hf
          refine jr_aload_n dX8_ahead_62 rfl rfl jv_rr ?_
          refine tr_getR (c := 468) hT (List.mem_of_getElem? (i := 19) rfl) fl_X8_73_23 dX8_ahead_63 ?_
          refine jr_aload_n dX8_ahead_66 rfl rfl jv_rr ?_
          refine tr_getR (c := 469) hT (List.mem_of_getElem? (i := 20) rfl) fl_X8_76_23 dX8_ahead_67 ?_
          obtain ⟨S18, h16, hf⟩ := so_b hf
          refine jr_call (st := []) lk_X8_319 (wX8_copies 468 469 hT S14 (show tm_k 468 = 50 from rfl) (show tm_k 469 = 50 from rfl) h16) jk_r0 rfl rfl (so_le rfl) (so_le rfl) dX8_ahead_70 ?_
          refine jr_iconst dX8_ahead_73 ic_0 ?_
          refine jr_istore (lv' := [(0, .ref (tm_a 0)), (1, .int a1), (2, .int a2), (3, .int a3), (4, .int (0 : Int32))]) dX8_ahead_74 (so_le rfl) rfl ?_
          refine wX8_ahead_76 a1 a2 a3 hT _ (fun S26 hf => ?_) so_N (0 : Int32) S18 hf
          refine jr_aload_n dX8_ahead_96 rfl rfl jv_rr ?_
          refine jr_aload_n dX8_ahead_97 rfl rfl jv_rr ?_
          refine tr_getR (c := 469) hT (List.mem_of_getElem? (i := 20) rfl) fl_X8_76_23 dX8_ahead_98 ?_
          refine jr_iload_n dX8_ahead_101 rfl rfl ?_
          obtain ⟨r28, h27, hf⟩ := so_b hf
          refine jr_callM (st := []) lk_X8_326_23 (wX8_thingOf 469 a1 hT S26 (show tm_k 469 = 50 from rfl) h27) tm_k23 rfl rfl rfl (so_le rfl) (so_le rfl) dX8_ahead_102 ?_
          refine jr_istore (lv' := [(0, .ref (tm_a 0)), (1, .int a1), (3, .int a3), (4, .int r28)]) dX8_ahead_105 (so_le rfl) rfl ?_
          refine jr_iload_n dX8_ahead_107 rfl rfl ?_
          refine jr_if_ne (tgt := 116) dX8_ahead_108 rfl (fun c29 => ?_) (fun c29 => ?_)
          · have hf := so_f c29 hf
            refine jr_aload_n dX8_ahead_116 rfl rfl jv_rr ?_
            refine jr_aload_n dX8_ahead_117 rfl rfl jv_rr ?_
            refine tr_getR (c := 469) hT (List.mem_of_getElem? (i := 20) rfl) fl_X8_76_23 dX8_ahead_118 ?_
            refine jr_iload_n dX8_ahead_121 rfl rfl ?_
            refine jr_iload dX8_ahead_122 rfl ?_
            obtain ⟨r31, h30, hf⟩ := so_b hf
            refine jr_callM (st := []) lk_X8_323_23 (wX8_amount 469 a1 r28 hT S26 (show tm_k 469 = 50 from rfl) h30) tm_k23 rfl rfl rfl (so_le rfl) (so_le rfl) dX8_ahead_124 ?_
            obtain ⟨rfl, rfl⟩ := so_e2 hf
            exact jr_iret rfl rfl dX8_ahead_127
          · have hf := so_t c29 hf
            refine jr_iload dX8_ahead_111 rfl ?_
            refine jr_goto (tgt := 127) dX8_ahead_113 rfl ?_
            obtain ⟨rfl, rfl⟩ := so_e2 hf
            exact jr_iret rfl rfl dX8_ahead_127
        · have hf := so_f c15 hf
          refine jr_iconst dX8_ahead_60 ic_0 ?_
          obtain ⟨rfl, rfl⟩ := so_e2 hf
          exact jr_iret rfl rfl dX8_ahead_61
      · refine so_jE hf (fun J => ∀ (u0 : Unit), J u0 = some (res, sg') → jg_ (tm_j S0 sg, tm_j S0 sg', .inl (some (.int res))) kX8_ahead 47 [(0, .ref (tm_a 0)), (1, .int a1), (2, .int a2), (3, .int a3)] [.ref (tm_a 0)] (tm_j S0 S8)) (fun _u hf => ?_) (fun J32 hJ32 hf => ?_)
        · refine jr_iconst dX8_ahead_47 ic_1 ?_
          refine jr_goto (tgt := 52) dX8_ahead_48 rfl ?_
          exact hJ11 (1 : Int32) hf
        · refine jr_if_eq (tgt := 47) dX8_ahead_35 rfl (fun c33 => ?_) (fun c33 => ?_)
          · have hf := so_t c33 hf
            exact hJ32 () hf
          · have hf := so_f c33 hf
            refine jr_iload_n dX8_ahead_38 rfl rfl ?_
            refine jr_iconst dX8_ahead_39 ic_0 ?_
            refine jr_iconst dX8_ahead_40 ic_1 ?_
            refine jr_call (st := [.ref (tm_a 0)]) lk_X8_140 (wX8_in a3 (0 : Int32) (1 : Int32) hT S8 rfl) jk_r0 rfl rfl (so_le rfl) (so_le rfl) dX8_ahead_41 ?_
            refine jr_if_ne (tgt := 51) dX8_ahead_44 rfl (fun c34 => ?_) (fun c34 => ?_)
            · have hf := so_f c34 hf
              refine jr_iconst dX8_ahead_51 ic_0 ?_
              exact hJ11 (0 : Int32) hf
            · have hf := so_t c34 hf
              exact hJ32 () hf
  · refine jr_if_ne (tgt := 18) dX8_ahead_11 rfl (fun c35 => ?_) (fun c35 => ?_)
    · have hf := so_f c35 hf
      refine jr_iconst dX8_ahead_18 ic_0 ?_
      exact hJ5 (0 : Int32) hf
    · have hf := so_t c35 hf
      refine jr_iconst dX8_ahead_14 ic_1 ?_
      refine jr_goto (tgt := 19) dX8_ahead_15 rfl ?_
      exact hJ5 (1 : Int32) hf

/- X8_when -/
abbrev kX8_when : jx_K := (cX8_when, 4, RX8, 8, (Option.some Jvm.ClassFile.FieldType.int), "when", [])
def LX8_when_63 (f1 : Int32) (f2 : Int32) : Nat → Int32 → tm_S → Option (Int32 × tm_S)
  | 0, _, _ => none
  | n + 1, v21, S22 =>
    if (200 : Int32) < v21 then
    (some ((-1 : Int32), S22))
    else
    ((fX8_thingOf 469 f1 S22).bind fun r25 =>
    if r25 = f2 then
    (some (v21, S22))
    else
    ((fX8_dayEnds 469 S22).bind fun S29 =>
    LX8_when_63 f1 f2 n (v21 + (1 : Int32)) S29))
set_option maxHeartbeats 4000000 in
set_option maxRecDepth 100000 in
theorem wX8_when_63 {res : Int32} {sg' : tm_S} {S0 : so_St} {sg0 : tm_S}   (f1 : Int32) (f2 : Int32) (hT : tm_Sh S0)   : ∀ (n : Nat) (v21 : Int32) (S22 : tm_S), LX8_when_63 f1 f2 n v21 S22 = some (res, sg') → jg_ (tm_j S0 sg0, tm_j S0 sg', .inl (some (.int res))) kX8_when 63 [(0, .ref (tm_a 0)), (1, .int f1), (2, .int f2), (3, .int v21)] [] (tm_j S0 S22) := by
  intro n
  induction n with
  | zero =>
    intro v21 S22 hf
    exact so_no hf
  | succ n ih =>
    intro v21 S22 hf
    rw [LX8_when_63] at hf
    refine jr_iload_n dX8_when_63 rfl rfl ?_
    refine jr_sipush dX8_when_64 sp_200 ?_
    refine jr_icmp_gt (tgt := 99) dX8_when_67 rfl (fun c23 => ?_) (fun c23 => ?_)
    · have hf := so_t c23 hf
      refine jr_iconst dX8_when_99 ic_m1 ?_
      obtain ⟨rfl, rfl⟩ := so_e2 hf
      exact jr_iret rfl rfl dX8_when_100
    · have hf := so_f c23 hf
      refine jr_aload_n dX8_when_70 rfl rfl jv_rr ?_
      refine jr_aload_n dX8_when_71 rfl rfl jv_rr ?_
      refine tr_getR (c := 469) hT (List.mem_of_getElem? (i := 20) rfl) fl_X8_76_23 dX8_when_72 ?_
      refine jr_iload_n dX8_when_75 rfl rfl ?_
      obtain ⟨r25, h24, hf⟩ := so_b hf
      refine jr_callM (st := []) lk_X8_326_23 (wX8_thingOf 469 f1 hT S22 (show tm_k 469 = 50 from rfl) h24) tm_k23 rfl rfl rfl (so_le rfl) (so_le rfl) dX8_when_76 ?_
      refine jr_iload_n dX8_when_79 rfl rfl ?_
      refine jr_icmp_ne (tgt := 85) dX8_when_80 rfl (fun c26 => ?_) (fun c26 => ?_)
      · have hf := so_f c26 hf
        refine jr_aload_n dX8_when_85 rfl rfl jv_rr ?_
        refine jr_aload_n dX8_when_86 rfl rfl jv_rr ?_
        refine tr_getR (c := 469) hT (List.mem_of_getElem? (i := 20) rfl) fl_X8_76_23 dX8_when_87 ?_
        obtain ⟨S29, h27, hf⟩ := so_b hf
        refine jr_callM (st := []) lk_X8_302_23 (wX8_dayEnds 469 hT S22 (show tm_k 469 = 50 from rfl) h27) tm_k23 rfl rfl rfl (so_le rfl) (so_le rfl) dX8_when_90 ?_
        refine jr_iinc (v := v21 + (1 : Int32)) (lv' := [(0, .ref (tm_a 0)), (1, .int f1), (2, .int f2), (3, .int (v21 + (1 : Int32)))]) dX8_when_93 rfl rfl (so_le rfl) rfl ?_
        refine jr_goto (tgt := 63) dX8_when_96 rfl ?_
        exact ih (v21 + (1 : Int32)) S29 hf
      · have hf := so_t c26 hf
        refine jr_iload_n dX8_when_83 rfl rfl ?_
        obtain ⟨rfl, rfl⟩ := so_e2 hf
        exact jr_iret rfl rfl dX8_when_84
def fX8_when (a1 : Int32) (a2 : Int32) (sg : tm_S) : Option (Int32 × tm_S) :=
  tm_let (tm_up sg 0 0 (0 : Int32)) fun S1 =>
  (fX8_isHouse a1 S1).bind fun r3 =>
  so_j (κ := Int32 → Option (Int32 × tm_S)) (ρ := Option (Int32 × tm_S)) (fun (v4 : Int32) =>
  tm_b2 (fX8_bad v4 (1 : Int32) (0 : Int32) S1) fun r7 S8 =>
  if r7 = (0 : Int32) then
  ((fX8_isThing a2 S8).bind fun r11 =>
  so_j (κ := Int32 → Option (Int32 × tm_S)) (ρ := Option (Int32 × tm_S)) (fun (v12 : Int32) =>
  tm_b2 (fX8_bad v12 (2 : Int32) (1 : Int32) S8) fun r15 S16 =>
  if r15 = (0 : Int32) then
  ((fX8_copies 468 469 S16).bind fun S20 =>
  LX8_when_63 a1 a2 so_N (0 : Int32) S20)
  else
  (some ((0 : Int32), S16)))
  (fun J13 =>
  if r11 = (0 : Int32) then
  (J13 (1 : Int32))
  else
  (J13 (0 : Int32))))
  else
  (some ((0 : Int32), S8)))
  (fun J5 =>
  if r3 = (0 : Int32) then
  (J5 (1 : Int32))
  else
  (J5 (0 : Int32)))
set_option maxHeartbeats 4000000 in
set_option maxRecDepth 100000 in
theorem wX8_when {res : Int32} {sg' : tm_S} {S0 : so_St}  (a1 : Int32) (a2 : Int32) (hT : tm_Sh S0) (sg : tm_S)  (hf : fX8_when a1 a2 sg = some (res, sg')) : jx_Sp 8 yX8_when (ws_ yX8_when cX8_when 4 (Option.some Jvm.ClassFile.FieldType.int)) [.ref (tm_a 0), .int a1, .int a2] (tm_j S0 sg) (.inl (some (.int res))) (tm_j S0 sg') := by
  refine jx_of (plainFor_of_name (by decide)) (so_le rfl) ?_
  show jg_ ((tm_j S0 sg), (tm_j S0 sg'), .inl (some (.int res))) kX8_when 0 [(0, .ref (tm_a 0)), (1, .int a1), (2, .int a2)] [] (tm_j S0 sg)
  unfold fX8_when at hf
  refine jr_aload_n dX8_when_0 rfl rfl jv_rr ?_
  refine jr_iconst dX8_when_1 ic_0 ?_
  refine tr_putI fp_X8_106_23 dX8_when_2 ?_
  refine tm_let_e hf (fun S1 hf => ?_)
  refine jr_aload_n dX8_when_5 rfl rfl jv_rr ?_
  refine jr_aload_n dX8_when_6 rfl rfl jv_rr ?_
  refine jr_iload_n dX8_when_7 rfl rfl ?_
  obtain ⟨r3, h2, hf⟩ := so_b hf
  refine jr_callM (st := [.ref (tm_a 0)]) lk_X8_339_23 (wX8_isHouse a1 hT S1 h2) tm_k23 rfl rfl rfl (so_le rfl) (so_le rfl) dX8_when_8 ?_
  refine so_jE hf (fun J => ∀ (v4 : Int32), J v4 = some (res, sg') → jg_ (tm_j S0 sg, tm_j S0 sg', .inl (some (.int res))) kX8_when 19 [(0, .ref (tm_a 0)), (1, .int a1), (2, .int a2)] [.int v4, .ref (tm_a 0)] (tm_j S0 S1)) (fun v4 hf => ?_) (fun J5 hJ5 hf => ?_)
  · refine jr_iconst dX8_when_19 ic_1 ?_
    refine jr_iconst dX8_when_20 ic_0 ?_
    obtain ⟨r7, S8, h6, hf⟩ := tm_b2E hf
    refine jr_callM (st := []) lk_X8_189_23 (wX8_bad v4 (1 : Int32) (0 : Int32) hT S1 h6) tm_k23 rfl rfl rfl (so_le rfl) (so_le rfl) dX8_when_21 ?_
    refine jr_if_ne (tgt := 48) dX8_when_24 rfl (fun c9 => ?_) (fun c9 => ?_)
    · have hf := so_f c9 hf
      refine jr_iconst dX8_when_48 ic_0 ?_
      obtain ⟨rfl, rfl⟩ := so_e2 hf
      exact jr_iret rfl rfl dX8_when_49
    · have hf := so_t c9 hf
      refine jr_aload_n dX8_when_27 rfl rfl jv_rr ?_
      refine jr_iload_n dX8_when_28 rfl rfl ?_
      obtain ⟨r11, h10, hf⟩ := so_b hf
      refine jr_call (st := [.ref (tm_a 0)]) lk_X8_342 (wX8_isThing a2 hT S8 h10) jk_r0 rfl rfl (so_le rfl) (so_le rfl) dX8_when_29 ?_
      refine so_jE hf (fun J => ∀ (v12 : Int32), J v12 = some (res, sg') → jg_ (tm_j S0 sg, tm_j S0 sg', .inl (some (.int res))) kX8_when 40 [(0, .ref (tm_a 0)), (1, .int a1), (2, .int a2)] [.int v12, .ref (tm_a 0)] (tm_j S0 S8)) (fun v12 hf => ?_) (fun J13 hJ13 hf => ?_)
      · refine jr_iconst dX8_when_40 ic_2 ?_
        refine jr_iconst dX8_when_41 ic_1 ?_
        obtain ⟨r15, S16, h14, hf⟩ := tm_b2E hf
        refine jr_callM (st := []) lk_X8_189_23 (wX8_bad v12 (2 : Int32) (1 : Int32) hT S8 h14) tm_k23 rfl rfl rfl (so_le rfl) (so_le rfl) dX8_when_42 ?_
        refine jr_if_eq (tgt := 50) dX8_when_45 rfl (fun c17 => ?_) (fun c17 => ?_)
        · have hf := so_t c17 hf
          refine jr_aload_n dX8_when_50 rfl rfl jv_rr ?_
          refine tr_getR (c := 468) hT (List.mem_of_getElem? (i := 19) rfl) fl_X8_73_23 dX8_when_51 ?_
          refine jr_aload_n dX8_when_54 rfl rfl jv_rr ?_
          refine tr_getR (c := 469) hT (List.mem_of_getElem? (i := 20) rfl) fl_X8_76_23 dX8_when_55 ?_
          obtain ⟨S20, h18, hf⟩ := so_b hf
          refine jr_call (st := []) lk_X8_319 (wX8_copies 468 469 hT S16 (show tm_k 468 = 50 from rfl) (show tm_k 469 = 50 from rfl) h18) jk_r0 rfl rfl (so_le rfl) (so_le rfl) dX8_when_58 ?_
          refine jr_iconst dX8_when_61 ic_0 ?_
          refine jr_istore_n (lv' := [(0, .ref (tm_a 0)), (1, .int a1), (2, .int a2), (3, .int (0 : Int32))]) dX8_when_62 rfl (so_le rfl) rfl ?_
          refine wX8_when_63 a1 a2 hT so_N (0 : Int32) S20 hf
        · have hf := so_f c17 hf
          refine jr_iconst dX8_when_48 ic_0 ?_
          obtain ⟨rfl, rfl⟩ := so_e2 hf
          exact jr_iret rfl rfl dX8_when_49
      · refine jr_if_ne (tgt := 39) dX8_when_32 rfl (fun c30 => ?_) (fun c30 => ?_)
        · have hf := so_f c30 hf
          refine jr_iconst dX8_when_39 ic_0 ?_
          exact hJ13 (0 : Int32) hf
        · have hf := so_t c30 hf
          refine jr_iconst dX8_when_35 ic_1 ?_
          refine jr_goto (tgt := 40) dX8_when_36 rfl ?_
          exact hJ13 (1 : Int32) hf
  · refine jr_if_ne (tgt := 18) dX8_when_11 rfl (fun c31 => ?_) (fun c31 => ?_)
    · have hf := so_f c31 hf
      refine jr_iconst dX8_when_18 ic_0 ?_
      exact hJ5 (0 : Int32) hf
    · have hf := so_t c31 hf
      refine jr_iconst dX8_when_14 ic_1 ?_
      refine jr_goto (tgt := 19) dX8_when_15 rfl ?_
      exact hJ5 (1 : Int32) hf

/- X8_muffle -/
abbrev kX8_muffle : jx_K := (cX8_muffle, 3, RX8, 5, (Option.some Jvm.ClassFile.FieldType.int), "muffle", [])
def LX8_muffle_31 (f1 : Int32) : Nat → Int32 → tm_S → Option (Int32 × tm_S)
  | 0, _, _ => none
  | n + 1, v10, S11 =>
    if (9 : Int32) < v10 then
    (some ((-1 : Int32), S11))
    else
    (so_gd (so_in ((80 : Int32) + f1) 100) fun _ =>
    if (S11 468 ((80 : Int32) + f1).toNatClampNeg) = (-1 : Int32) then
    (some ((-1 : Int32), S11))
    else
    (tm_b2 (fX8_forceWith 468 f1 v10 S11) fun r16 S17 =>
    if r16 = (0 : Int32) then
    (some (v10, S17))
    else
    (LX8_muffle_31 f1 n (v10 + (1 : Int32)) S17)))
set_option maxHeartbeats 4000000 in
set_option maxRecDepth 100000 in
theorem wX8_muffle_31 {res : Int32} {sg' : tm_S} {S0 : so_St} {sg0 : tm_S}   (f1 : Int32) (hT : tm_Sh S0)   : ∀ (n : Nat) (v10 : Int32) (S11 : tm_S), LX8_muffle_31 f1 n v10 S11 = some (res, sg') → jg_ (tm_j S0 sg0, tm_j S0 sg', .inl (some (.int res))) kX8_muffle 31 [(0, .ref (tm_a 0)), (1, .int f1), (2, .int v10)] [] (tm_j S0 S11) := by
  intro n
  induction n with
  | zero =>
    intro v10 S11 hf
    exact so_no hf
  | succ n ih =>
    intro v10 S11 hf
    rw [LX8_muffle_31] at hf
    refine jr_iload_n dX8_muffle_31 rfl rfl ?_
    refine jr_bipush dX8_muffle_32 bp_9 ?_
    refine jr_icmp_gt (tgt := 71) dX8_muffle_34 rfl (fun c12 => ?_) (fun c12 => ?_)
    · have hf := so_t c12 hf
      refine jr_iconst dX8_muffle_71 ic_m1 ?_
      obtain ⟨rfl, rfl⟩ := so_e2 hf
      exact jr_iret rfl rfl dX8_muffle_72
    · have hf := so_f c12 hf
      refine jr_aload_n dX8_muffle_37 rfl rfl jv_rr ?_
      refine tr_getR (c := 468) hT (List.mem_of_getElem? (i := 19) rfl) fl_X8_73_23 dX8_muffle_38 ?_
      refine jr_bipush dX8_muffle_41 bp_80 ?_
      refine jr_iload_n dX8_muffle_43 rfl rfl ?_
      refine jr_iadd dX8_muffle_44 ?_
      obtain ⟨g13, hf⟩ := so_gdE hf
      refine tr_iaload hT (show tm_k 468 = 50 from rfl) rfl (so_inE g13) dX8_muffle_45 ?_
      refine jr_iconst dX8_muffle_46 ic_m1 ?_
      refine jr_icmp_eq (tgt := 71) dX8_muffle_47 rfl (fun c14 => ?_) (fun c14 => ?_)
      · have hf := so_t c14 hf
        refine jr_iconst dX8_muffle_71 ic_m1 ?_
        obtain ⟨rfl, rfl⟩ := so_e2 hf
        exact jr_iret rfl rfl dX8_muffle_72
      · have hf := so_f c14 hf
        refine jr_aload_n dX8_muffle_50 rfl rfl jv_rr ?_
        refine jr_aload_n dX8_muffle_51 rfl rfl jv_rr ?_
        refine tr_getR (c := 468) hT (List.mem_of_getElem? (i := 19) rfl) fl_X8_73_23 dX8_muffle_52 ?_
        refine jr_iload_n dX8_muffle_55 rfl rfl ?_
        refine jr_iload_n dX8_muffle_56 rfl rfl ?_
        obtain ⟨r16, S17, h15, hf⟩ := tm_b2E hf
        refine jr_callM (st := []) lk_X8_282_23 (wX8_forceWith 468 f1 v10 hT S11 (show tm_k 468 = 50 from rfl) h15) tm_k23 rfl rfl rfl (so_le rfl) (so_le rfl) dX8_muffle_57 ?_
        refine jr_if_ne (tgt := 65) dX8_muffle_60 rfl (fun c18 => ?_) (fun c18 => ?_)
        · have hf := so_f c18 hf
          refine jr_iinc (v := v10 + (1 : Int32)) (lv' := [(0, .ref (tm_a 0)), (1, .int f1), (2, .int (v10 + (1 : Int32)))]) dX8_muffle_65 rfl rfl (so_le rfl) rfl ?_
          refine jr_goto (tgt := 31) dX8_muffle_68 rfl ?_
          exact ih (v10 + (1 : Int32)) S17 hf
        · have hf := so_t c18 hf
          refine jr_iload_n dX8_muffle_63 rfl rfl ?_
          obtain ⟨rfl, rfl⟩ := so_e2 hf
          exact jr_iret rfl rfl dX8_muffle_64
def fX8_muffle (a1 : Int32) (sg : tm_S) : Option (Int32 × tm_S) :=
  tm_let (tm_up sg 0 0 (0 : Int32)) fun S1 =>
  (fX8_isPiano a1 S1).bind fun r3 =>
  so_j (κ := Int32 → Option (Int32 × tm_S)) (ρ := Option (Int32 × tm_S)) (fun (v4 : Int32) =>
  tm_b2 (fX8_bad v4 (1 : Int32) (0 : Int32) S1) fun r7 S8 =>
  if r7 = (0 : Int32) then
  (LX8_muffle_31 a1 so_N (0 : Int32) S8)
  else
  (some ((0 : Int32), S8)))
  (fun J5 =>
  if r3 = (0 : Int32) then
  (J5 (1 : Int32))
  else
  (J5 (0 : Int32)))
set_option maxHeartbeats 4000000 in
set_option maxRecDepth 100000 in
theorem wX8_muffle {res : Int32} {sg' : tm_S} {S0 : so_St}  (a1 : Int32) (hT : tm_Sh S0) (sg : tm_S)  (hf : fX8_muffle a1 sg = some (res, sg')) : jx_Sp 5 yX8_muffle (ws_ yX8_muffle cX8_muffle 3 (Option.some Jvm.ClassFile.FieldType.int)) [.ref (tm_a 0), .int a1] (tm_j S0 sg) (.inl (some (.int res))) (tm_j S0 sg') := by
  refine jx_of (plainFor_of_name (by decide)) (so_le rfl) ?_
  show jg_ ((tm_j S0 sg), (tm_j S0 sg'), .inl (some (.int res))) kX8_muffle 0 [(0, .ref (tm_a 0)), (1, .int a1)] [] (tm_j S0 sg)
  unfold fX8_muffle at hf
  refine jr_aload_n dX8_muffle_0 rfl rfl jv_rr ?_
  refine jr_iconst dX8_muffle_1 ic_0 ?_
  refine tr_putI fp_X8_106_23 dX8_muffle_2 ?_
  refine tm_let_e hf (fun S1 hf => ?_)
  refine jr_aload_n dX8_muffle_5 rfl rfl jv_rr ?_
  refine jr_aload_n dX8_muffle_6 rfl rfl jv_rr ?_
  refine jr_iload_n dX8_muffle_7 rfl rfl ?_
  obtain ⟨r3, h2, hf⟩ := so_b hf
  refine jr_callM (st := [.ref (tm_a 0)]) lk_X8_345_23 (wX8_isPiano a1 hT S1 h2) tm_k23 rfl rfl rfl (so_le rfl) (so_le rfl) dX8_muffle_8 ?_
  refine so_jE hf (fun J => ∀ (v4 : Int32), J v4 = some (res, sg') → jg_ (tm_j S0 sg, tm_j S0 sg', .inl (some (.int res))) kX8_muffle 19 [(0, .ref (tm_a 0)), (1, .int a1)] [.int v4, .ref (tm_a 0)] (tm_j S0 S1)) (fun v4 hf => ?_) (fun J5 hJ5 hf => ?_)
  · refine jr_iconst dX8_muffle_19 ic_1 ?_
    refine jr_iconst dX8_muffle_20 ic_0 ?_
    obtain ⟨r7, S8, h6, hf⟩ := tm_b2E hf
    refine jr_callM (st := []) lk_X8_189_23 (wX8_bad v4 (1 : Int32) (0 : Int32) hT S1 h6) tm_k23 rfl rfl rfl (so_le rfl) (so_le rfl) dX8_muffle_21 ?_
    refine jr_if_eq (tgt := 29) dX8_muffle_24 rfl (fun c9 => ?_) (fun c9 => ?_)
    · have hf := so_t c9 hf
      refine jr_iconst dX8_muffle_29 ic_0 ?_
      refine jr_istore_n (lv' := [(0, .ref (tm_a 0)), (1, .int a1), (2, .int (0 : Int32))]) dX8_muffle_30 rfl (so_le rfl) rfl ?_
      refine wX8_muffle_31 a1 hT so_N (0 : Int32) S8 hf
    · have hf := so_f c9 hf
      refine jr_iconst dX8_muffle_27 ic_0 ?_
      obtain ⟨rfl, rfl⟩ := so_e2 hf
      exact jr_iret rfl rfl dX8_muffle_28
  · refine jr_if_ne (tgt := 18) dX8_muffle_11 rfl (fun c19 => ?_) (fun c19 => ?_)
    · have hf := so_f c19 hf
      refine jr_iconst dX8_muffle_18 ic_0 ?_
      exact hJ5 (0 : Int32) hf
    · have hf := so_t c19 hf
      refine jr_iconst dX8_muffle_14 ic_1 ?_
      refine jr_goto (tgt := 19) dX8_muffle_15 rfl ?_
      exact hJ5 (1 : Int32) hf
