/-! printed: functions and walks -/
set_option maxRecDepth 100000
set_option linter.unusedVariables false
/- X8_givenBy -/
abbrev kX8_givenBy : jx_K := (cX8_givenBy, 5, RX8, 1, (Option.some Jvm.ClassFile.FieldType.int), "givenBy", [])
def LX8_givenBy_5 (f1 : Int32) (f2 : Int32) (sg : tm_S) : Nat → Int32 → Int32 → Option Int32
  | 0, _, _ => none
  | n + 1, v1, v2 =>
    so_gd (so_in (2 : Int32) 4) fun _ =>
    if (sg 4 (2 : Int32).toNatClampNeg) ≤ v2 then
    (some v1)
    else
    (so_j (κ := Int32 → Option Int32) (ρ := Option Int32) (fun (v5 : Int32) =>
    LX8_givenBy_5 f1 f2 sg n (v1 + v5) (v2 + (1 : Int32)))
    (fun J6 =>
    if (fX8_has f1 v2) = (0 : Int32) then
    (J6 (0 : Int32))
    else
    (so_gd (so_in v2 6) fun _ =>
    so_gd (so_in (1 : Int32) 2) fun _ =>
    J6 (fX8_less f2 (sg (43 + v2.toNatClampNeg) (1 : Int32).toNatClampNeg)))))
set_option maxHeartbeats 4000000 in
set_option maxRecDepth 100000 in
theorem wX8_givenBy_5 {res : Int32} {S0 : so_St}   (f1 : Int32) (f2 : Int32) (hT : tm_Sh S0) (sg : tm_S)  : ∀ (n : Nat) (v1 : Int32) (v2 : Int32), LX8_givenBy_5 f1 f2 sg n v1 v2 = some res → jg_ (tm_j S0 sg, tm_j S0 sg, .inl (some (.int res))) kX8_givenBy 5 [(0, .ref (tm_a 0)), (1, .int f1), (2, .int f2), (3, .int v1), (4, .int v2)] [] (tm_j S0 sg) := by
  intro n
  induction n with
  | zero =>
    intro v1 v2 hf
    exact so_no hf
  | succ n ih =>
    intro v1 v2 hf
    rw [LX8_givenBy_5] at hf
    refine jr_iload dX8_givenBy_5 rfl ?_
    refine jr_aload_n dX8_givenBy_7 rfl rfl jv_rr ?_
    refine tr_getR (c := 4) hT (List.mem_of_getElem? (i := 3) rfl) fl_X8_23_23 dX8_givenBy_8 ?_
    refine jr_iconst dX8_givenBy_11 ic_2 ?_
    obtain ⟨g3, hf⟩ := so_gdE hf
    refine tr_iaload hT (show tm_k 4 = 50 from rfl) rfl (so_inE g3) dX8_givenBy_12 ?_
    refine jr_icmp_ge (tgt := 51) dX8_givenBy_13 rfl (fun c4 => ?_) (fun c4 => ?_)
    · have hf := so_t c4 hf
      refine jr_iload_n dX8_givenBy_51 rfl rfl ?_
      obtain rfl := so_e1 hf
      exact jr_iret rfl rfl dX8_givenBy_52
    · have hf := so_f c4 hf
      refine jr_iload_n dX8_givenBy_16 rfl rfl ?_
      refine jr_iload_n dX8_givenBy_17 rfl rfl ?_
      refine jr_iload dX8_givenBy_18 rfl ?_
      refine jr_call (st := [.int v1]) lk_X8_370 (wX8_has f1 v2 hT sg rfl) jk_r0 rfl rfl (so_le rfl) (so_le rfl) dX8_givenBy_20 ?_
      refine so_jE hf (fun J => ∀ (v5 : Int32), J v5 = some res → jg_ (tm_j S0 sg, tm_j S0 sg, .inl (some (.int res))) kX8_givenBy 43 [(0, .ref (tm_a 0)), (1, .int f1), (2, .int f2), (4, .int v2)] [.int v5, .int v1] (tm_j S0 sg)) (fun v5 hf => ?_) (fun J6 hJ6 hf => ?_)
      · refine jr_iadd dX8_givenBy_43 ?_
        refine jr_istore_n (lv' := [(0, .ref (tm_a 0)), (1, .int f1), (2, .int f2), (3, .int (v1 + v5)), (4, .int v2)]) dX8_givenBy_44 rfl (so_le rfl) rfl ?_
        refine jr_iinc (v := v2 + (1 : Int32)) (lv' := [(0, .ref (tm_a 0)), (1, .int f1), (2, .int f2), (3, .int (v1 + v5)), (4, .int (v2 + (1 : Int32)))]) dX8_givenBy_45 rfl rfl (so_le rfl) rfl ?_
        refine jr_goto (tgt := 5) dX8_givenBy_48 rfl ?_
        exact ih (v1 + v5) (v2 + (1 : Int32)) hf
      · refine jr_if_eq (tgt := 42) dX8_givenBy_23 rfl (fun c7 => ?_) (fun c7 => ?_)
        · have hf := so_t c7 hf
          refine jr_iconst dX8_givenBy_42 ic_0 ?_
          refine jr_sub [0, 1, 2, 4] rfl ?_
          exact hJ6 (0 : Int32) hf
        · have hf := so_f c7 hf
          refine jr_iload_n dX8_givenBy_26 rfl rfl ?_
          refine jr_aload_n dX8_givenBy_27 rfl rfl jv_rr ?_
          refine tr_getR (c := 42) hT (List.mem_of_getElem? (i := 11) rfl) fl_X8_49_23 dX8_givenBy_28 ?_
          refine jr_iload dX8_givenBy_31 rfl ?_
          obtain ⟨g8, hf⟩ := so_gdE hf
          refine tr_aaload (g' := 43) hT (show tm_k 42 = 56 from rfl) rfl rfl (so_inE g8) dX8_givenBy_33 ?_
          refine jr_iconst dX8_givenBy_34 ic_1 ?_
          obtain ⟨g9, hf⟩ := so_gdE hf
          refine tr_iaload hT (tm_rk_42 (so_inE g8)) (tm_rl_42 (so_inE g8)) (so_inE g9) dX8_givenBy_35 ?_
          refine jr_call (st := [.int v1]) lk_X8_249 (wX8_less f2 (sg (43 + v2.toNatClampNeg) (1 : Int32).toNatClampNeg) hT sg rfl) jk_r0 rfl rfl (so_le rfl) (so_le rfl) dX8_givenBy_36 ?_
          refine jr_goto (tgt := 43) dX8_givenBy_39 rfl ?_
          refine jr_sub [0, 1, 2, 4] rfl ?_
          exact hJ6 (fX8_less f2 (sg (43 + v2.toNatClampNeg) (1 : Int32).toNatClampNeg)) hf
def fX8_givenBy (a1 : Int32) (a2 : Int32) (sg : tm_S) : Option Int32 :=
  LX8_givenBy_5 a1 a2 sg so_N (0 : Int32) (0 : Int32)
set_option maxHeartbeats 4000000 in
set_option maxRecDepth 100000 in
theorem wX8_givenBy {res : Int32} {S0 : so_St}  (a1 : Int32) (a2 : Int32) (hT : tm_Sh S0) (sg : tm_S)  (hf : fX8_givenBy a1 a2 sg = some res) : jx_Sp 1 yX8_givenBy (ws_ yX8_givenBy cX8_givenBy 5 (Option.some Jvm.ClassFile.FieldType.int)) [.ref (tm_a 0), .int a1, .int a2] (tm_j S0 sg) (.inl (some (.int res))) (tm_j S0 sg) := by
  refine jx_of (plainFor_of_name (by decide)) (so_le rfl) ?_
  show jg_ ((tm_j S0 sg), (tm_j S0 sg), .inl (some (.int res))) kX8_givenBy 0 [(0, .ref (tm_a 0)), (1, .int a1), (2, .int a2)] [] (tm_j S0 sg)
  unfold fX8_givenBy at hf
  refine jr_iconst dX8_givenBy_0 ic_0 ?_
  refine jr_istore_n (lv' := [(0, .ref (tm_a 0)), (1, .int a1), (2, .int a2), (3, .int (0 : Int32))]) dX8_givenBy_1 rfl (so_le rfl) rfl ?_
  refine jr_iconst dX8_givenBy_2 ic_0 ?_
  refine jr_istore (lv' := [(0, .ref (tm_a 0)), (1, .int a1), (2, .int a2), (3, .int (0 : Int32)), (4, .int (0 : Int32))]) dX8_givenBy_3 (so_le rfl) rfl ?_
  refine wX8_givenBy_5 a1 a2 hT sg so_N (0 : Int32) (0 : Int32) hf

/- X8_share -/
abbrev kX8_share : jx_K := (cX8_share, 5, RX8, 2, (Option.some Jvm.ClassFile.FieldType.int), "share", [])
def LX8_share_74 (f1 : Int32) (f2 : Int32) (f3 : Int32) (k100 : Int32 → tm_S → Option (Int32 × tm_S)) : Nat → Int32 → tm_S → Option (Int32 × tm_S)
  | 0, _, _ => none
  | n + 1, v17, S18 =>
    if (9 : Int32) ≤ v17 then
    (k100 v17 S18)
    else
    ((fX8_givenBy f2 (v17 + (1 : Int32)) S18).bind fun r21 =>
    if f3 < r21 then
    (k100 v17 S18)
    else
    (LX8_share_74 f1 f2 f3 k100 n (v17 + (1 : Int32)) S18))
set_option maxHeartbeats 4000000 in
set_option maxRecDepth 100000 in
theorem wX8_share_74 {res : Int32} {sg' : tm_S} {S0 : so_St} {sg0 : tm_S}   (f1 : Int32) (f2 : Int32) (f3 : Int32) (hT : tm_Sh S0)   (k100 : Int32 → tm_S → Option (Int32 × tm_S)) (h100 : ∀ (v23 : Int32) (S24 : tm_S), k100 v23 S24 = some (res, sg') → jg_ (tm_j S0 sg0, tm_j S0 sg', .inl (some (.int res))) kX8_share 100 [(0, .ref (tm_a 0)), (1, .int f1), (2, .int f2), (4, .int v23)] [] (tm_j S0 S24)) : ∀ (n : Nat) (v17 : Int32) (S18 : tm_S), LX8_share_74 f1 f2 f3 k100 n v17 S18 = some (res, sg') → jg_ (tm_j S0 sg0, tm_j S0 sg', .inl (some (.int res))) kX8_share 74 [(0, .ref (tm_a 0)), (1, .int f1), (2, .int f2), (3, .int f3), (4, .int v17)] [] (tm_j S0 S18) := by
  intro n
  induction n with
  | zero =>
    intro v17 S18 hf
    exact so_no hf
  | succ n ih =>
    intro v17 S18 hf
    rw [LX8_share_74] at hf
    refine jr_iload dX8_share_74 rfl ?_
    refine jr_bipush dX8_share_76 bp_9 ?_
    refine jr_icmp_ge (tgt := 100) dX8_share_78 rfl (fun c19 => ?_) (fun c19 => ?_)
    · have hf := so_t c19 hf
      refine jr_sub [0, 1, 2, 4] rfl ?_
      exact h100 v17 S18 hf
    · have hf := so_f c19 hf
      refine jr_aload_n dX8_share_81 rfl rfl jv_rr ?_
      refine jr_iload_n dX8_share_82 rfl rfl ?_
      refine jr_iload dX8_share_83 rfl ?_
      refine jr_iconst dX8_share_85 ic_1 ?_
      refine jr_iadd dX8_share_86 ?_
      obtain ⟨r21, h20, hf⟩ := so_b hf
      refine jr_callM (st := []) lk_X8_380_23 (wX8_givenBy f2 (v17 + (1 : Int32)) hT S18 h20) tm_k23 rfl rfl rfl (so_le rfl) (so_le rfl) dX8_share_87 ?_
      refine jr_iload_n dX8_share_90 rfl rfl ?_
      refine jr_icmp_gt (tgt := 100) dX8_share_91 rfl (fun c22 => ?_) (fun c22 => ?_)
      · have hf := so_t c22 hf
        refine jr_sub [0, 1, 2, 4] rfl ?_
        exact h100 v17 S18 hf
      · have hf := so_f c22 hf
        refine jr_iinc (v := v17 + (1 : Int32)) (lv' := [(0, .ref (tm_a 0)), (1, .int f1), (2, .int f2), (3, .int f3), (4, .int (v17 + (1 : Int32)))]) dX8_share_94 rfl rfl (so_le rfl) rfl ?_
        refine jr_goto (tgt := 74) dX8_share_97 rfl ?_
        exact ih (v17 + (1 : Int32)) S18 hf
def fX8_share (a1 : Int32) (a2 : Int32) (a3 : Int32) (sg : tm_S) : Option (Int32 × tm_S) :=
  tm_let (tm_up sg 0 0 (0 : Int32)) fun S1 =>
  (fX8_isPiano a1 S1).bind fun r3 =>
  so_j (κ := Int32 → Option (Int32 × tm_S)) (ρ := Option (Int32 × tm_S)) (fun (v4 : Int32) =>
  tm_b2 (fX8_bad v4 (1 : Int32) (0 : Int32) S1) fun r7 S8 =>
  if r7 = (0 : Int32) then
  (so_gd (so_in (2 : Int32) 4) fun _ =>
  so_j (κ := Int32 → Option (Int32 × tm_S)) (ρ := Option (Int32 × tm_S)) (fun (v11 : Int32) =>
  tm_b2 (fX8_bad v11 (2 : Int32) (1 : Int32) S8) fun r14 S15 =>
  if r14 = (0 : Int32) then
  (LX8_share_74 a1 a2 a3 (fun (v25 : Int32) (S26 : tm_S) =>
  if (fX8_has a2 a1) = (0 : Int32) then
  (some ((0 : Int32), S26))
  else
  (so_gd (so_in a1 6) fun _ =>
  so_gd (so_in (1 : Int32) 2) fun _ =>
  some ((fX8_less v25 (S26 (43 + a1.toNatClampNeg) (1 : Int32).toNatClampNeg)), S26))) so_N (0 : Int32) S15)
  else
  (some ((0 : Int32), S15)))
  (fun J12 =>
  so_j (κ := Unit → Option (Int32 × tm_S)) (ρ := Option (Int32 × tm_S)) (fun (_u : Unit) =>
  J12 (1 : Int32))
  (fun J30 =>
  if (fX8_in a2 (0 : Int32) (((1 : Int32) <<< ((S8 4 (2 : Int32).toNatClampNeg) &&& 31)) - (1 : Int32))) = (0 : Int32) then
  (J30 ())
  else
  (if (fX8_in a3 (0 : Int32) (99 : Int32)) = (0 : Int32) then
  (J30 ())
  else
  (J12 (0 : Int32))))))
  else
  (some ((0 : Int32), S8)))
  (fun J5 =>
  if r3 = (0 : Int32) then
  (J5 (1 : Int32))
  else
  (J5 (0 : Int32)))
set_option maxHeartbeats 4000000 in
set_option maxRecDepth 100000 in
theorem wX8_share {res : Int32} {sg' : tm_S} {S0 : so_St}  (a1 : Int32) (a2 : Int32) (a3 : Int32) (hT : tm_Sh S0) (sg : tm_S)  (hf : fX8_share a1 a2 a3 sg = some (res, sg')) : jx_Sp 2 yX8_share (ws_ yX8_share cX8_share 5 (Option.some Jvm.ClassFile.FieldType.int)) [.ref (tm_a 0), .int a1, .int a2, .int a3] (tm_j S0 sg) (.inl (some (.int res))) (tm_j S0 sg') := by
  refine jx_of (plainFor_of_name (by decide)) (so_le rfl) ?_
  show jg_ ((tm_j S0 sg), (tm_j S0 sg'), .inl (some (.int res))) kX8_share 0 [(0, .ref (tm_a 0)), (1, .int a1), (2, .int a2), (3, .int a3)] [] (tm_j S0 sg)
  unfold fX8_share at hf
  refine jr_aload_n dX8_share_0 rfl rfl jv_rr ?_
  refine jr_iconst dX8_share_1 ic_0 ?_
  refine tr_putI fp_X8_106_23 dX8_share_2 ?_
  refine tm_let_e hf (fun S1 hf => ?_)
  refine jr_aload_n dX8_share_5 rfl rfl jv_rr ?_
  refine jr_aload_n dX8_share_6 rfl rfl jv_rr ?_
  refine jr_iload_n dX8_share_7 rfl rfl ?_
  obtain ⟨r3, h2, hf⟩ := so_b hf
  refine jr_callM (st := [.ref (tm_a 0)]) lk_X8_345_23 (wX8_isPiano a1 hT S1 h2) tm_k23 rfl rfl rfl (so_le rfl) (so_le rfl) dX8_share_8 ?_
  refine so_jE hf (fun J => ∀ (v4 : Int32), J v4 = some (res, sg') → jg_ (tm_j S0 sg, tm_j S0 sg', .inl (some (.int res))) kX8_share 19 [(0, .ref (tm_a 0)), (1, .int a1), (2, .int a2), (3, .int a3)] [.int v4, .ref (tm_a 0)] (tm_j S0 S1)) (fun v4 hf => ?_) (fun J5 hJ5 hf => ?_)
  · refine jr_iconst dX8_share_19 ic_1 ?_
    refine jr_iconst dX8_share_20 ic_0 ?_
    obtain ⟨r7, S8, h6, hf⟩ := tm_b2E hf
    refine jr_callM (st := []) lk_X8_189_23 (wX8_bad v4 (1 : Int32) (0 : Int32) hT S1 h6) tm_k23 rfl rfl rfl (so_le rfl) (so_le rfl) dX8_share_21 ?_
    refine jr_if_ne (tgt := 69) dX8_share_24 rfl (fun c9 => ?_) (fun c9 => ?_)
    · have hf := so_f c9 hf
      refine jr_iconst dX8_share_69 ic_0 ?_
      obtain ⟨rfl, rfl⟩ := so_e2 hf
      exact jr_iret rfl rfl dX8_share_70
    · have hf := so_t c9 hf
      refine jr_aload_n dX8_share_27 rfl rfl jv_rr ?_
      refine jr_iload_n dX8_share_28 rfl rfl ?_
      refine jr_iconst dX8_share_29 ic_0 ?_
      refine jr_iconst dX8_share_30 ic_1 ?_
      refine jr_aload_n dX8_share_31 rfl rfl jv_rr ?_
      refine tr_getR (c := 4) hT (List.mem_of_getElem? (i := 3) rfl) fl_X8_23_23 dX8_share_32 ?_
      refine jr_iconst dX8_share_35 ic_2 ?_
      obtain ⟨g10, hf⟩ := so_gdE hf
      refine tr_iaload hT (show tm_k 4 = 50 from rfl) rfl (so_inE g10) dX8_share_36 ?_
      refine jr_ishl dX8_share_37 ?_
      refine jr_iconst dX8_share_38 ic_1 ?_
      refine jr_isub dX8_share_39 ?_
      refine jr_call (st := [.ref (tm_a 0)]) lk_X8_140 (wX8_in a2 (0 : Int32) (((1 : Int32) <<< ((S8 4 (2 : Int32).toNatClampNeg) &&& 31)) - (1 : Int32)) hT S8 rfl) jk_r0 rfl rfl (so_le rfl) (so_le rfl) dX8_share_40 ?_
      refine so_jE hf (fun J => ∀ (v11 : Int32), J v11 = some (res, sg') → jg_ (tm_j S0 sg, tm_j S0 sg', .inl (some (.int res))) kX8_share 61 [(0, .ref (tm_a 0)), (1, .int a1), (2, .int a2), (3, .int a3)] [.int v11, .ref (tm_a 0)] (tm_j S0 S8)) (fun v11 hf => ?_) (fun J12 hJ12 hf => ?_)
      · refine jr_iconst dX8_share_61 ic_2 ?_
        refine jr_iconst dX8_share_62 ic_1 ?_
        obtain ⟨r14, S15, h13, hf⟩ := tm_b2E hf
        refine jr_callM (st := []) lk_X8_189_23 (wX8_bad v11 (2 : Int32) (1 : Int32) hT S8 h13) tm_k23 rfl rfl rfl (so_le rfl) (so_le rfl) dX8_share_63 ?_
        refine jr_if_eq (tgt := 71) dX8_share_66 rfl (fun c16 => ?_) (fun c16 => ?_)
        · have hf := so_t c16 hf
          refine jr_iconst dX8_share_71 ic_0 ?_
          refine jr_istore (lv' := [(0, .ref (tm_a 0)), (1, .int a1), (2, .int a2), (3, .int a3), (4, .int (0 : Int32))]) dX8_share_72 (so_le rfl) rfl ?_
          refine wX8_share_74 a1 a2 a3 hT _ (fun v25 S26 hf => ?_) so_N (0 : Int32) S15 hf
          refine jr_iload_n dX8_share_100 rfl rfl ?_
          refine jr_iload_n dX8_share_101 rfl rfl ?_
          refine jr_call (st := []) lk_X8_370 (wX8_has a2 a1 hT S26 rfl) jk_r0 rfl rfl (so_le rfl) (so_le rfl) dX8_share_102 ?_
          refine jr_if_eq (tgt := 124) dX8_share_105 rfl (fun c27 => ?_) (fun c27 => ?_)
          · have hf := so_t c27 hf
            refine jr_iconst dX8_share_124 ic_0 ?_
            obtain ⟨rfl, rfl⟩ := so_e2 hf
            exact jr_iret rfl rfl dX8_share_125
          · have hf := so_f c27 hf
            refine jr_iload dX8_share_108 rfl ?_
            refine jr_aload_n dX8_share_110 rfl rfl jv_rr ?_
            refine tr_getR (c := 42) hT (List.mem_of_getElem? (i := 11) rfl) fl_X8_49_23 dX8_share_111 ?_
            refine jr_iload_n dX8_share_114 rfl rfl ?_
            obtain ⟨g28, hf⟩ := so_gdE hf
            refine tr_aaload (g' := 43) hT (show tm_k 42 = 56 from rfl) rfl rfl (so_inE g28) dX8_share_115 ?_
            refine jr_iconst dX8_share_116 ic_1 ?_
            obtain ⟨g29, hf⟩ := so_gdE hf
            refine tr_iaload hT (tm_rk_42 (so_inE g28)) (tm_rl_42 (so_inE g28)) (so_inE g29) dX8_share_117 ?_
            refine jr_call (st := []) lk_X8_249 (wX8_less v25 (S26 (43 + a1.toNatClampNeg) (1 : Int32).toNatClampNeg) hT S26 rfl) jk_r0 rfl rfl (so_le rfl) (so_le rfl) dX8_share_118 ?_
            refine jr_goto (tgt := 125) dX8_share_121 rfl ?_
            obtain ⟨rfl, rfl⟩ := so_e2 hf
            exact jr_iret rfl rfl dX8_share_125
        · have hf := so_f c16 hf
          refine jr_iconst dX8_share_69 ic_0 ?_
          obtain ⟨rfl, rfl⟩ := so_e2 hf
          exact jr_iret rfl rfl dX8_share_70
      · refine so_jE hf (fun J => ∀ (u0 : Unit), J u0 = some (res, sg') → jg_ (tm_j S0 sg, tm_j S0 sg', .inl (some (.int res))) kX8_share 56 [(0, .ref (tm_a 0)), (1, .int a1), (2, .int a2), (3, .int a3)] [.ref (tm_a 0)] (tm_j S0 S8)) (fun _u hf => ?_) (fun J30 hJ30 hf => ?_)
        · refine jr_iconst dX8_share_56 ic_1 ?_
          refine jr_goto (tgt := 61) dX8_share_57 rfl ?_
          exact hJ12 (1 : Int32) hf
        · refine jr_if_eq (tgt := 56) dX8_share_43 rfl (fun c31 => ?_) (fun c31 => ?_)
          · have hf := so_t c31 hf
            exact hJ30 () hf
          · have hf := so_f c31 hf
            refine jr_iload_n dX8_share_46 rfl rfl ?_
            refine jr_iconst dX8_share_47 ic_0 ?_
            refine jr_bipush dX8_share_48 bp_99 ?_
            refine jr_call (st := [.ref (tm_a 0)]) lk_X8_140 (wX8_in a3 (0 : Int32) (99 : Int32) hT S8 rfl) jk_r0 rfl rfl (so_le rfl) (so_le rfl) dX8_share_50 ?_
            refine jr_if_ne (tgt := 60) dX8_share_53 rfl (fun c32 => ?_) (fun c32 => ?_)
            · have hf := so_f c32 hf
              refine jr_iconst dX8_share_60 ic_0 ?_
              exact hJ12 (0 : Int32) hf
            · have hf := so_t c32 hf
              exact hJ30 () hf
  · refine jr_if_ne (tgt := 18) dX8_share_11 rfl (fun c33 => ?_) (fun c33 => ?_)
    · have hf := so_f c33 hf
      refine jr_iconst dX8_share_18 ic_0 ?_
      exact hJ5 (0 : Int32) hf
    · have hf := so_t c33 hf
      refine jr_iconst dX8_share_14 ic_1 ?_
      refine jr_goto (tgt := 19) dX8_share_15 rfl ?_
      exact hJ5 (1 : Int32) hf

/- X8_those -/
abbrev kX8_those : jx_K := (cX8_those, 4, RX8, 2, (Option.some Jvm.ClassFile.FieldType.int), "those", [])
def LX8_those_32 (f1 : Int32) : Nat → Int32 → Int32 → tm_S → Option (Int32 × tm_S)
  | 0, _, _, _ => none
  | n + 1, v10, v11, S12 =>
    so_gd (so_in (0 : Int32) 4) fun _ =>
    if (S12 4 (0 : Int32).toNatClampNeg) ≤ v11 then
    (some (v10, S12))
    else
    ((fX8_thingOf 468 v11 S12).bind fun r16 =>
    so_j (κ := Int32 → Option (Int32 × tm_S)) (ρ := Option (Int32 × tm_S)) (fun (v17 : Int32) =>
    LX8_those_32 f1 n (v10 ||| v17) (v11 + (1 : Int32)) S12)
    (fun J18 =>
    if r16 = f1 then
    (J18 ((1 : Int32) <<< (v11 &&& 31)))
    else
    (J18 (0 : Int32))))
set_option maxHeartbeats 4000000 in
set_option maxRecDepth 100000 in
theorem wX8_those_32 {res : Int32} {sg' : tm_S} {S0 : so_St} {sg0 : tm_S}   (f1 : Int32) (hT : tm_Sh S0)   : ∀ (n : Nat) (v10 : Int32) (v11 : Int32) (S12 : tm_S), LX8_those_32 f1 n v10 v11 S12 = some (res, sg') → jg_ (tm_j S0 sg0, tm_j S0 sg', .inl (some (.int res))) kX8_those 32 [(0, .ref (tm_a 0)), (1, .int f1), (2, .int v10), (3, .int v11)] [] (tm_j S0 S12) := by
  intro n
  induction n with
  | zero =>
    intro v10 v11 S12 hf
    exact so_no hf
  | succ n ih =>
    intro v10 v11 S12 hf
    rw [LX8_those_32] at hf
    refine jr_iload_n dX8_those_32 rfl rfl ?_
    refine jr_aload_n dX8_those_33 rfl rfl jv_rr ?_
    refine tr_getR (c := 4) hT (List.mem_of_getElem? (i := 3) rfl) fl_X8_23_23 dX8_those_34 ?_
    refine jr_iconst dX8_those_37 ic_0 ?_
    obtain ⟨g13, hf⟩ := so_gdE hf
    refine tr_iaload hT (show tm_k 4 = 50 from rfl) rfl (so_inE g13) dX8_those_38 ?_
    refine jr_icmp_ge (tgt := 71) dX8_those_39 rfl (fun c14 => ?_) (fun c14 => ?_)
    · have hf := so_t c14 hf
      refine jr_iload_n dX8_those_71 rfl rfl ?_
      obtain ⟨rfl, rfl⟩ := so_e2 hf
      exact jr_iret rfl rfl dX8_those_72
    · have hf := so_f c14 hf
      refine jr_iload_n dX8_those_42 rfl rfl ?_
      refine jr_aload_n dX8_those_43 rfl rfl jv_rr ?_
      refine jr_aload_n dX8_those_44 rfl rfl jv_rr ?_
      refine tr_getR (c := 468) hT (List.mem_of_getElem? (i := 19) rfl) fl_X8_73_23 dX8_those_45 ?_
      refine jr_iload_n dX8_those_48 rfl rfl ?_
      obtain ⟨r16, h15, hf⟩ := so_b hf
      refine jr_callM (st := [.int v10]) lk_X8_326_23 (wX8_thingOf 468 v11 hT S12 (show tm_k 468 = 50 from rfl) h15) tm_k23 rfl rfl rfl (so_le rfl) (so_le rfl) dX8_those_49 ?_
      refine jr_iload_n dX8_those_52 rfl rfl ?_
      refine so_jE hf (fun J => ∀ (v17 : Int32), J v17 = some (res, sg') → jg_ (tm_j S0 sg0, tm_j S0 sg', .inl (some (.int res))) kX8_those 63 [(0, .ref (tm_a 0)), (1, .int f1), (3, .int v11)] [.int v17, .int v10] (tm_j S0 S12)) (fun v17 hf => ?_) (fun J18 hJ18 hf => ?_)
      · refine jr_ior dX8_those_63 ?_
        refine jr_istore_n (lv' := [(0, .ref (tm_a 0)), (1, .int f1), (2, .int (v10 ||| v17)), (3, .int v11)]) dX8_those_64 rfl (so_le rfl) rfl ?_
        refine jr_iinc (v := v11 + (1 : Int32)) (lv' := [(0, .ref (tm_a 0)), (1, .int f1), (2, .int (v10 ||| v17)), (3, .int (v11 + (1 : Int32)))]) dX8_those_65 rfl rfl (so_le rfl) rfl ?_
        refine jr_goto (tgt := 32) dX8_those_68 rfl ?_
        exact ih (v10 ||| v17) (v11 + (1 : Int32)) S12 hf
      · refine jr_icmp_ne (tgt := 62) dX8_those_53 rfl (fun c19 => ?_) (fun c19 => ?_)
        · have hf := so_f c19 hf
          refine jr_iconst dX8_those_62 ic_0 ?_
          refine jr_sub [0, 1, 3] rfl ?_
          exact hJ18 (0 : Int32) hf
        · have hf := so_t c19 hf
          refine jr_iconst dX8_those_56 ic_1 ?_
          refine jr_iload_n dX8_those_57 rfl rfl ?_
          refine jr_ishl dX8_those_58 ?_
          refine jr_goto (tgt := 63) dX8_those_59 rfl ?_
          refine jr_sub [0, 1, 3] rfl ?_
          exact hJ18 ((1 : Int32) <<< (v11 &&& 31)) hf
def fX8_those (a1 : Int32) (sg : tm_S) : Option (Int32 × tm_S) :=
  tm_let (tm_up sg 0 0 (0 : Int32)) fun S1 =>
  (fX8_isThing a1 S1).bind fun r3 =>
  so_j (κ := Int32 → Option (Int32 × tm_S)) (ρ := Option (Int32 × tm_S)) (fun (v4 : Int32) =>
  tm_b2 (fX8_bad v4 (1 : Int32) (1 : Int32) S1) fun r7 S8 =>
  if r7 = (0 : Int32) then
  (LX8_those_32 a1 so_N (0 : Int32) (0 : Int32) S8)
  else
  (some ((0 : Int32), S8)))
  (fun J5 =>
  if r3 = (0 : Int32) then
  (J5 (1 : Int32))
  else
  (J5 (0 : Int32)))
set_option maxHeartbeats 4000000 in
set_option maxRecDepth 100000 in
theorem wX8_those {res : Int32} {sg' : tm_S} {S0 : so_St}  (a1 : Int32) (hT : tm_Sh S0) (sg : tm_S)  (hf : fX8_those a1 sg = some (res, sg')) : jx_Sp 2 yX8_those (ws_ yX8_those cX8_those 4 (Option.some Jvm.ClassFile.FieldType.int)) [.ref (tm_a 0), .int a1] (tm_j S0 sg) (.inl (some (.int res))) (tm_j S0 sg') := by
  refine jx_of (plainFor_of_name (by decide)) (so_le rfl) ?_
  show jg_ ((tm_j S0 sg), (tm_j S0 sg'), .inl (some (.int res))) kX8_those 0 [(0, .ref (tm_a 0)), (1, .int a1)] [] (tm_j S0 sg)
  unfold fX8_those at hf
  refine jr_aload_n dX8_those_0 rfl rfl jv_rr ?_
  refine jr_iconst dX8_those_1 ic_0 ?_
  refine tr_putI fp_X8_106_23 dX8_those_2 ?_
  refine tm_let_e hf (fun S1 hf => ?_)
  refine jr_aload_n dX8_those_5 rfl rfl jv_rr ?_
  refine jr_iload_n dX8_those_6 rfl rfl ?_
  obtain ⟨r3, h2, hf⟩ := so_b hf
  refine jr_call (st := [.ref (tm_a 0)]) lk_X8_342 (wX8_isThing a1 hT S1 h2) jk_r0 rfl rfl (so_le rfl) (so_le rfl) dX8_those_7 ?_
  refine so_jE hf (fun J => ∀ (v4 : Int32), J v4 = some (res, sg') → jg_ (tm_j S0 sg, tm_j S0 sg', .inl (some (.int res))) kX8_those 18 [(0, .ref (tm_a 0)), (1, .int a1)] [.int v4, .ref (tm_a 0)] (tm_j S0 S1)) (fun v4 hf => ?_) (fun J5 hJ5 hf => ?_)
  · refine jr_iconst dX8_those_18 ic_1 ?_
    refine jr_iconst dX8_those_19 ic_1 ?_
    obtain ⟨r7, S8, h6, hf⟩ := tm_b2E hf
    refine jr_callM (st := []) lk_X8_189_23 (wX8_bad v4 (1 : Int32) (1 : Int32) hT S1 h6) tm_k23 rfl rfl rfl (so_le rfl) (so_le rfl) dX8_those_20 ?_
    refine jr_if_eq (tgt := 28) dX8_those_23 rfl (fun c9 => ?_) (fun c9 => ?_)
    · have hf := so_t c9 hf
      refine jr_iconst dX8_those_28 ic_0 ?_
      refine jr_istore_n (lv' := [(0, .ref (tm_a 0)), (1, .int a1), (2, .int (0 : Int32))]) dX8_those_29 rfl (so_le rfl) rfl ?_
      refine jr_iconst dX8_those_30 ic_0 ?_
      refine jr_istore_n (lv' := [(0, .ref (tm_a 0)), (1, .int a1), (2, .int (0 : Int32)), (3, .int (0 : Int32))]) dX8_those_31 rfl (so_le rfl) rfl ?_
      refine wX8_those_32 a1 hT so_N (0 : Int32) (0 : Int32) S8 hf
    · have hf := so_f c9 hf
      refine jr_iconst dX8_those_26 ic_0 ?_
      obtain ⟨rfl, rfl⟩ := so_e2 hf
      exact jr_iret rfl rfl dX8_those_27
  · refine jr_if_ne (tgt := 17) dX8_those_10 rfl (fun c20 => ?_) (fun c20 => ?_)
    · have hf := so_f c20 hf
      refine jr_iconst dX8_those_17 ic_0 ?_
      exact hJ5 (0 : Int32) hf
    · have hf := so_t c20 hf
      refine jr_iconst dX8_those_13 ic_1 ?_
      refine jr_goto (tgt := 18) dX8_those_14 rfl ?_
      exact hJ5 (1 : Int32) hf

/- X8_loudest -/
abbrev kX8_loudest : jx_K := (cX8_loudest, 5, RX8, 6, (Option.some Jvm.ClassFile.FieldType.int), "loudest", [])
def LX8_loudest_37 (f1 : Int32) (k99 : Int32 → Int32 → tm_S → Option (Int32 × tm_S)) : Nat → Int32 → Int32 → Int32 → tm_S → Option (Int32 × tm_S)
  | 0, _, _, _, _ => none
  | n + 1, v8, v9, v10, S11 =>
    so_gd (so_in (2 : Int32) 4) fun _ =>
    if (S11 4 (2 : Int32).toNatClampNeg) ≤ v10 then
    (k99 v8 v9 S11)
    else
    (so_gd (so_in ((80 : Int32) + v10) 100) fun _ =>
    so_j (κ := Int32 → Int32 → tm_S → Option (Int32 × tm_S)) (ρ := Option (Int32 × tm_S)) (fun (v15 : Int32) (v16 : Int32) (S17 : tm_S) =>
    LX8_loudest_37 f1 k99 n v15 v16 (v10 + (1 : Int32)) S17)
    (fun J18 =>
    if (S11 468 ((80 : Int32) + v10).toNatClampNeg) = (-1 : Int32) then
    (J18 v8 v9 S11)
    else
    (tm_b2 (fX8_forceOf 468 v10 S11) fun r21 S22 =>
    if v9 < r21 then
    (tm_b2 (fX8_forceOf 468 v10 S22) fun r25 S26 =>
    J18 v10 r25 S26)
    else
    (J18 v8 v9 S22))))
set_option maxHeartbeats 4000000 in
set_option maxRecDepth 100000 in
theorem wX8_loudest_37 {res : Int32} {sg' : tm_S} {S0 : so_St} {sg0 : tm_S}   (f1 : Int32) (hT : tm_Sh S0)   (k99 : Int32 → Int32 → tm_S → Option (Int32 × tm_S)) (h99 : ∀ (v27 : Int32) (v28 : Int32) (S29 : tm_S), k99 v27 v28 S29 = some (res, sg') → jg_ (tm_j S0 sg0, tm_j S0 sg', .inl (some (.int res))) kX8_loudest 99 [(1, .int f1), (2, .int v27), (3, .int v28)] [] (tm_j S0 S29)) : ∀ (n : Nat) (v8 : Int32) (v9 : Int32) (v10 : Int32) (S11 : tm_S), LX8_loudest_37 f1 k99 n v8 v9 v10 S11 = some (res, sg') → jg_ (tm_j S0 sg0, tm_j S0 sg', .inl (some (.int res))) kX8_loudest 37 [(0, .ref (tm_a 0)), (1, .int f1), (2, .int v8), (3, .int v9), (4, .int v10)] [] (tm_j S0 S11) := by
  intro n
  induction n with
  | zero =>
    intro v8 v9 v10 S11 hf
    exact so_no hf
  | succ n ih =>
    intro v8 v9 v10 S11 hf
    rw [LX8_loudest_37] at hf
    refine jr_iload dX8_loudest_37 rfl ?_
    refine jr_aload_n dX8_loudest_39 rfl rfl jv_rr ?_
    refine tr_getR (c := 4) hT (List.mem_of_getElem? (i := 3) rfl) fl_X8_23_23 dX8_loudest_40 ?_
    refine jr_iconst dX8_loudest_43 ic_2 ?_
    obtain ⟨g12, hf⟩ := so_gdE hf
    refine tr_iaload hT (show tm_k 4 = 50 from rfl) rfl (so_inE g12) dX8_loudest_44 ?_
    refine jr_icmp_ge (tgt := 99) dX8_loudest_45 rfl (fun c13 => ?_) (fun c13 => ?_)
    · have hf := so_t c13 hf
      refine jr_sub [1, 2, 3] rfl ?_
      exact h99 v8 v9 S11 hf
    · have hf := so_f c13 hf
      refine jr_aload_n dX8_loudest_48 rfl rfl jv_rr ?_
      refine tr_getR (c := 468) hT (List.mem_of_getElem? (i := 19) rfl) fl_X8_73_23 dX8_loudest_49 ?_
      refine jr_bipush dX8_loudest_52 bp_80 ?_
      refine jr_iload dX8_loudest_54 rfl ?_
      refine jr_iadd dX8_loudest_56 ?_
      obtain ⟨g14, hf⟩ := so_gdE hf
      refine tr_iaload hT (show tm_k 468 = 50 from rfl) rfl (so_inE g14) dX8_loudest_57 ?_
      refine jr_iconst dX8_loudest_58 ic_m1 ?_
      refine so_jE hf (fun J => ∀ (v15 : Int32) (v16 : Int32) (S17 : tm_S), J v15 v16 S17 = some (res, sg') → jg_ (tm_j S0 sg0, tm_j S0 sg', .inl (some (.int res))) kX8_loudest 93 [(0, .ref (tm_a 0)), (1, .int f1), (2, .int v15), (3, .int v16), (4, .int v10)] [] (tm_j S0 S17)) (fun v15 v16 S17 hf => ?_) (fun J18 hJ18 hf => ?_)
      · refine jr_iinc (v := v10 + (1 : Int32)) (lv' := [(0, .ref (tm_a 0)), (1, .int f1), (2, .int v15), (3, .int v16), (4, .int (v10 + (1 : Int32)))]) dX8_loudest_93 rfl rfl (so_le rfl) rfl ?_
        refine jr_goto (tgt := 37) dX8_loudest_96 rfl ?_
        exact ih v15 v16 (v10 + (1 : Int32)) S17 hf
      · refine jr_icmp_eq (tgt := 93) dX8_loudest_59 rfl (fun c19 => ?_) (fun c19 => ?_)
        · have hf := so_t c19 hf
          exact hJ18 v8 v9 S11 hf
        · have hf := so_f c19 hf
          refine jr_aload_n dX8_loudest_62 rfl rfl jv_rr ?_
          refine jr_aload_n dX8_loudest_63 rfl rfl jv_rr ?_
          refine tr_getR (c := 468) hT (List.mem_of_getElem? (i := 19) rfl) fl_X8_73_23 dX8_loudest_64 ?_
          refine jr_iload dX8_loudest_67 rfl ?_
          obtain ⟨r21, S22, h20, hf⟩ := tm_b2E hf
          refine jr_callM (st := []) lk_X8_286_23 (wX8_forceOf 468 v10 hT S11 (show tm_k 468 = 50 from rfl) h20) tm_k23 rfl rfl rfl (so_le rfl) (so_le rfl) dX8_loudest_69 ?_
          refine jr_iload_n dX8_loudest_72 rfl rfl ?_
          refine jr_icmp_gt (tgt := 79) dX8_loudest_73 rfl (fun c23 => ?_) (fun c23 => ?_)
          · have hf := so_t c23 hf
            refine jr_iload dX8_loudest_79 rfl ?_
            refine jr_istore_n (lv' := [(0, .ref (tm_a 0)), (1, .int f1), (2, .int v10), (3, .int v9), (4, .int v10)]) dX8_loudest_81 rfl (so_le rfl) rfl ?_
            refine jr_aload_n dX8_loudest_82 rfl rfl jv_rr ?_
            refine jr_aload_n dX8_loudest_83 rfl rfl jv_rr ?_
            refine tr_getR (c := 468) hT (List.mem_of_getElem? (i := 19) rfl) fl_X8_73_23 dX8_loudest_84 ?_
            refine jr_iload dX8_loudest_87 rfl ?_
            obtain ⟨r25, S26, h24, hf⟩ := tm_b2E hf
            refine jr_callM (st := []) lk_X8_286_23 (wX8_forceOf 468 v10 hT S22 (show tm_k 468 = 50 from rfl) h24) tm_k23 rfl rfl rfl (so_le rfl) (so_le rfl) dX8_loudest_89 ?_
            refine jr_istore_n (lv' := [(0, .ref (tm_a 0)), (1, .int f1), (2, .int v10), (3, .int r25), (4, .int v10)]) dX8_loudest_92 rfl (so_le rfl) rfl ?_
            exact hJ18 v10 r25 S26 hf
          · have hf := so_f c23 hf
            refine jr_goto (tgt := 93) dX8_loudest_76 rfl ?_
            exact hJ18 v8 v9 S22 hf
def fX8_loudest (a1 : Int32) (sg : tm_S) : Option (Int32 × tm_S) :=
  tm_let (tm_up sg 0 0 (0 : Int32)) fun S1 =>
  so_j (κ := Int32 → Option (Int32 × tm_S)) (ρ := Option (Int32 × tm_S)) (fun (v2 : Int32) =>
  tm_b2 (fX8_bad v2 (1 : Int32) (1 : Int32) S1) fun r5 S6 =>
  if r5 = (0 : Int32) then
  (LX8_loudest_37 a1 (fun (v30 : Int32) (v31 : Int32) (S32 : tm_S) =>
  if a1 = (0 : Int32) then
  (some (v30, S32))
  else
  (some (v31, S32))) so_N (-1 : Int32) (-1 : Int32) (0 : Int32) S6)
  else
  (some ((0 : Int32), S6)))
  (fun J3 =>
  if (fX8_in a1 (0 : Int32) (1 : Int32)) = (0 : Int32) then
  (J3 (1 : Int32))
  else
  (J3 (0 : Int32)))
set_option maxHeartbeats 4000000 in
set_option maxRecDepth 100000 in
theorem wX8_loudest {res : Int32} {sg' : tm_S} {S0 : so_St}  (a1 : Int32) (hT : tm_Sh S0) (sg : tm_S)  (hf : fX8_loudest a1 sg = some (res, sg')) : jx_Sp 6 yX8_loudest (ws_ yX8_loudest cX8_loudest 5 (Option.some Jvm.ClassFile.FieldType.int)) [.ref (tm_a 0), .int a1] (tm_j S0 sg) (.inl (some (.int res))) (tm_j S0 sg') := by
  refine jx_of (plainFor_of_name (by decide)) (so_le rfl) ?_
  show jg_ ((tm_j S0 sg), (tm_j S0 sg'), .inl (some (.int res))) kX8_loudest 0 [(0, .ref (tm_a 0)), (1, .int a1)] [] (tm_j S0 sg)
  unfold fX8_loudest at hf
  refine jr_aload_n dX8_loudest_0 rfl rfl jv_rr ?_
  refine jr_iconst dX8_loudest_1 ic_0 ?_
  refine tr_putI fp_X8_106_23 dX8_loudest_2 ?_
  refine tm_let_e hf (fun S1 hf => ?_)
  refine jr_aload_n dX8_loudest_5 rfl rfl jv_rr ?_
  refine jr_iload_n dX8_loudest_6 rfl rfl ?_
  refine jr_iconst dX8_loudest_7 ic_0 ?_
  refine jr_iconst dX8_loudest_8 ic_1 ?_
  refine jr_call (st := [.ref (tm_a 0)]) lk_X8_140 (wX8_in a1 (0 : Int32) (1 : Int32) hT S1 rfl) jk_r0 rfl rfl (so_le rfl) (so_le rfl) dX8_loudest_9 ?_
  refine so_jE hf (fun J => ∀ (v2 : Int32), J v2 = some (res, sg') → jg_ (tm_j S0 sg, tm_j S0 sg', .inl (some (.int res))) kX8_loudest 20 [(0, .ref (tm_a 0)), (1, .int a1)] [.int v2, .ref (tm_a 0)] (tm_j S0 S1)) (fun v2 hf => ?_) (fun J3 hJ3 hf => ?_)
  · refine jr_iconst dX8_loudest_20 ic_1 ?_
    refine jr_iconst dX8_loudest_21 ic_1 ?_
    obtain ⟨r5, S6, h4, hf⟩ := tm_b2E hf
    refine jr_callM (st := []) lk_X8_189_23 (wX8_bad v2 (1 : Int32) (1 : Int32) hT S1 h4) tm_k23 rfl rfl rfl (so_le rfl) (so_le rfl) dX8_loudest_22 ?_
    refine jr_if_eq (tgt := 30) dX8_loudest_25 rfl (fun c7 => ?_) (fun c7 => ?_)
    · have hf := so_t c7 hf
      refine jr_iconst dX8_loudest_30 ic_m1 ?_
      refine jr_istore_n (lv' := [(0, .ref (tm_a 0)), (1, .int a1), (2, .int (-1 : Int32))]) dX8_loudest_31 rfl (so_le rfl) rfl ?_
      refine jr_iconst dX8_loudest_32 ic_m1 ?_
      refine jr_istore_n (lv' := [(0, .ref (tm_a 0)), (1, .int a1), (2, .int (-1 : Int32)), (3, .int (-1 : Int32))]) dX8_loudest_33 rfl (so_le rfl) rfl ?_
      refine jr_iconst dX8_loudest_34 ic_0 ?_
      refine jr_istore (lv' := [(0, .ref (tm_a 0)), (1, .int a1), (2, .int (-1 : Int32)), (3, .int (-1 : Int32)), (4, .int (0 : Int32))]) dX8_loudest_35 (so_le rfl) rfl ?_
      refine wX8_loudest_37 a1 hT _ (fun v30 v31 S32 hf => ?_) so_N (-1 : Int32) (-1 : Int32) (0 : Int32) S6 hf
      refine jr_iload_n dX8_loudest_99 rfl rfl ?_
      refine jr_if_ne (tgt := 107) dX8_loudest_100 rfl (fun c33 => ?_) (fun c33 => ?_)
      · have hf := so_f c33 hf
        refine jr_iload_n dX8_loudest_107 rfl rfl ?_
        obtain ⟨rfl, rfl⟩ := so_e2 hf
        exact jr_iret rfl rfl dX8_loudest_108
      · have hf := so_t c33 hf
        refine jr_iload_n dX8_loudest_103 rfl rfl ?_
        refine jr_goto (tgt := 108) dX8_loudest_104 rfl ?_
        obtain ⟨rfl, rfl⟩ := so_e2 hf
        exact jr_iret rfl rfl dX8_loudest_108
    · have hf := so_f c7 hf
      refine jr_iconst dX8_loudest_28 ic_0 ?_
      obtain ⟨rfl, rfl⟩ := so_e2 hf
      exact jr_iret rfl rfl dX8_loudest_29
  · refine jr_if_ne (tgt := 19) dX8_loudest_12 rfl (fun c34 => ?_) (fun c34 => ?_)
    · have hf := so_f c34 hf
      refine jr_iconst dX8_loudest_19 ic_0 ?_
      exact hJ3 (0 : Int32) hf
    · have hf := so_t c34 hf
      refine jr_iconst dX8_loudest_15 ic_1 ?_
      refine jr_goto (tgt := 20) dX8_loudest_16 rfl ?_
      exact hJ3 (1 : Int32) hf

/- X8_quiet -/
abbrev kX8_quiet : jx_K := (cX8_quiet, 5, RX8, 4, (Option.some Jvm.ClassFile.FieldType.int), "quiet", [])
def LX8_quiet_44 (f1 : Int32) : Nat → Int32 → Int32 → tm_S → Option (Int32 × tm_S)
  | 0, _, _, _ => none
  | n + 1, v13, v14, S15 =>
    so_gd (so_in (0 : Int32) 4) fun _ =>
    if (S15 4 (0 : Int32).toNatClampNeg) ≤ v14 then
    (some (v13, S15))
    else
    ((fX8_pianoIn 468 v14 S15).bind fun r19 =>
    so_j (κ := Int32 → tm_S → Option (Int32 × tm_S)) (ρ := Option (Int32 × tm_S)) (fun (v20 : Int32) (S21 : tm_S) =>
    LX8_quiet_44 f1 n v20 (v14 + (1 : Int32)) S21)
    (fun J22 =>
    so_j (κ := Unit → Option (Int32 × tm_S)) (ρ := Option (Int32 × tm_S)) (fun (_u : Unit) =>
    so_gd (so_in ((80 : Int32) + f1) 100) fun _ =>
    tm_let (tm_up S15 469 ((80 : Int32) + f1).toNatClampNeg v14) fun S25 =>
    (fX8_fightsOf 469 f1 S25).bind fun r27 =>
    so_j (κ := Int32 → Option (Int32 × tm_S)) (ρ := Option (Int32 × tm_S)) (fun (v28 : Int32) =>
    J22 (v13 ||| v28) S25)
    (fun J29 =>
    if r27 = (0 : Int32) then
    (J29 ((1 : Int32) <<< (v14 &&& 31)))
    else
    (J29 (0 : Int32))))
    (fun J23 =>
    if r19 = (-1 : Int32) then
    (J23 ())
    else
    (if r19 = f1 then
    (J23 ())
    else
    (J22 v13 S15)))))
set_option maxHeartbeats 4000000 in
set_option maxRecDepth 100000 in
theorem wX8_quiet_44 {res : Int32} {sg' : tm_S} {S0 : so_St} {sg0 : tm_S}   (f1 : Int32) (hT : tm_Sh S0)   : ∀ (n : Nat) (v13 : Int32) (v14 : Int32) (S15 : tm_S), LX8_quiet_44 f1 n v13 v14 S15 = some (res, sg') → jg_ (tm_j S0 sg0, tm_j S0 sg', .inl (some (.int res))) kX8_quiet 44 [(0, .ref (tm_a 0)), (1, .int f1), (2, .int v13), (3, .int v14)] [] (tm_j S0 S15) := by
  intro n
  induction n with
  | zero =>
    intro v13 v14 S15 hf
    exact so_no hf
  | succ n ih =>
    intro v13 v14 S15 hf
    rw [LX8_quiet_44] at hf
    refine jr_iload_n dX8_quiet_44 rfl rfl ?_
    refine jr_aload_n dX8_quiet_45 rfl rfl jv_rr ?_
    refine tr_getR (c := 4) hT (List.mem_of_getElem? (i := 3) rfl) fl_X8_23_23 dX8_quiet_46 ?_
    refine jr_iconst dX8_quiet_49 ic_0 ?_
    obtain ⟨g16, hf⟩ := so_gdE hf
    refine tr_iaload hT (show tm_k 4 = 50 from rfl) rfl (so_inE g16) dX8_quiet_50 ?_
    refine jr_icmp_ge (tgt := 118) dX8_quiet_51 rfl (fun c17 => ?_) (fun c17 => ?_)
    · have hf := so_t c17 hf
      refine jr_iload_n dX8_quiet_118 rfl rfl ?_
      obtain ⟨rfl, rfl⟩ := so_e2 hf
      exact jr_iret rfl rfl dX8_quiet_119
    · have hf := so_f c17 hf
      refine jr_aload_n dX8_quiet_54 rfl rfl jv_rr ?_
      refine jr_aload_n dX8_quiet_55 rfl rfl jv_rr ?_
      refine tr_getR (c := 468) hT (List.mem_of_getElem? (i := 19) rfl) fl_X8_73_23 dX8_quiet_56 ?_
      refine jr_iload_n dX8_quiet_59 rfl rfl ?_
      obtain ⟨r19, h18, hf⟩ := so_b hf
      refine jr_callM (st := []) lk_X8_293_23 (wX8_pianoIn 468 v14 hT S15 (show tm_k 468 = 50 from rfl) h18) tm_k23 rfl rfl rfl (so_le rfl) (so_le rfl) dX8_quiet_60 ?_
      refine jr_istore (lv' := [(0, .ref (tm_a 0)), (1, .int f1), (2, .int v13), (3, .int v14), (4, .int r19)]) dX8_quiet_63 (so_le rfl) rfl ?_
      refine jr_iload dX8_quiet_65 rfl ?_
      refine jr_iconst dX8_quiet_67 ic_m1 ?_
      refine so_jE hf (fun J => ∀ (v20 : Int32) (S21 : tm_S), J v20 S21 = some (res, sg') → jg_ (tm_j S0 sg0, tm_j S0 sg', .inl (some (.int res))) kX8_quiet 112 [(0, .ref (tm_a 0)), (1, .int f1), (2, .int v20), (3, .int v14)] [] (tm_j S0 S21)) (fun v20 S21 hf => ?_) (fun J22 hJ22 hf => ?_)
      · refine jr_iinc (v := v14 + (1 : Int32)) (lv' := [(0, .ref (tm_a 0)), (1, .int f1), (2, .int v20), (3, .int (v14 + (1 : Int32)))]) dX8_quiet_112 rfl rfl (so_le rfl) rfl ?_
        refine jr_goto (tgt := 44) dX8_quiet_115 rfl ?_
        exact ih v20 (v14 + (1 : Int32)) S21 hf
      · refine so_jE hf (fun J => ∀ (u0 : Unit), J u0 = some (res, sg') → jg_ (tm_j S0 sg0, tm_j S0 sg', .inl (some (.int res))) kX8_quiet 80 [(0, .ref (tm_a 0)), (1, .int f1), (2, .int v13), (3, .int v14)] [] (tm_j S0 S15)) (fun _u hf => ?_) (fun J23 hJ23 hf => ?_)
        · refine jr_aload_n dX8_quiet_80 rfl rfl jv_rr ?_
          refine tr_getR (c := 469) hT (List.mem_of_getElem? (i := 20) rfl) fl_X8_76_23 dX8_quiet_81 ?_
          refine jr_bipush dX8_quiet_84 bp_80 ?_
          refine jr_iload_n dX8_quiet_86 rfl rfl ?_
          refine jr_iadd dX8_quiet_87 ?_
          refine jr_iload_n dX8_quiet_88 rfl rfl ?_
          obtain ⟨g24, hf⟩ := so_gdE hf
          refine tr_iastore hT (show tm_k 469 = 50 from rfl) rfl (so_inE g24) dX8_quiet_89 ?_
          refine tm_let_e hf (fun S25 hf => ?_)
          refine jr_iload_n dX8_quiet_90 rfl rfl ?_
          refine jr_aload_n dX8_quiet_91 rfl rfl jv_rr ?_
          refine jr_aload_n dX8_quiet_92 rfl rfl jv_rr ?_
          refine tr_getR (c := 469) hT (List.mem_of_getElem? (i := 20) rfl) fl_X8_76_23 dX8_quiet_93 ?_
          refine jr_iload_n dX8_quiet_96 rfl rfl ?_
          obtain ⟨r27, h26, hf⟩ := so_b hf
          refine jr_callM (st := [.int v13]) lk_X8_329_23 (wX8_fightsOf 469 f1 hT S25 (show tm_k 469 = 50 from rfl) h26) tm_k23 rfl rfl rfl (so_le rfl) (so_le rfl) dX8_quiet_97 ?_
          refine so_jE hf (fun J => ∀ (v28 : Int32), J v28 = some (res, sg') → jg_ (tm_j S0 sg0, tm_j S0 sg', .inl (some (.int res))) kX8_quiet 110 [(0, .ref (tm_a 0)), (1, .int f1), (3, .int v14)] [.int v28, .int v13] (tm_j S0 S25)) (fun v28 hf => ?_) (fun J29 hJ29 hf => ?_)
          · refine jr_ior dX8_quiet_110 ?_
            refine jr_istore_n (lv' := [(0, .ref (tm_a 0)), (1, .int f1), (2, .int (v13 ||| v28)), (3, .int v14)]) dX8_quiet_111 rfl (so_le rfl) rfl ?_
            exact hJ22 (v13 ||| v28) S25 hf
          · refine jr_if_ne (tgt := 109) dX8_quiet_100 rfl (fun c30 => ?_) (fun c30 => ?_)
            · have hf := so_f c30 hf
              refine jr_iconst dX8_quiet_109 ic_0 ?_
              refine jr_sub [0, 1, 3] rfl ?_
              exact hJ29 (0 : Int32) hf
            · have hf := so_t c30 hf
              refine jr_iconst dX8_quiet_103 ic_1 ?_
              refine jr_iload_n dX8_quiet_104 rfl rfl ?_
              refine jr_ishl dX8_quiet_105 ?_
              refine jr_goto (tgt := 110) dX8_quiet_106 rfl ?_
              refine jr_sub [0, 1, 3] rfl ?_
              exact hJ29 ((1 : Int32) <<< (v14 &&& 31)) hf
        · refine jr_icmp_eq (tgt := 80) dX8_quiet_68 rfl (fun c31 => ?_) (fun c31 => ?_)
          · have hf := so_t c31 hf
            refine jr_sub [0, 1, 2, 3] rfl ?_
            exact hJ23 () hf
          · have hf := so_f c31 hf
            refine jr_iload dX8_quiet_71 rfl ?_
            refine jr_iload_n dX8_quiet_73 rfl rfl ?_
            refine jr_icmp_eq (tgt := 80) dX8_quiet_74 rfl (fun c32 => ?_) (fun c32 => ?_)
            · have hf := so_t c32 hf
              refine jr_sub [0, 1, 2, 3] rfl ?_
              exact hJ23 () hf
            · have hf := so_f c32 hf
              refine jr_goto (tgt := 112) dX8_quiet_77 rfl ?_
              refine jr_sub [0, 1, 2, 3] rfl ?_
              exact hJ22 v13 S15 hf
def fX8_quiet (a1 : Int32) (sg : tm_S) : Option (Int32 × tm_S) :=
  tm_let (tm_up sg 0 0 (0 : Int32)) fun S1 =>
  (fX8_isPiano a1 S1).bind fun r3 =>
  so_j (κ := Int32 → Option (Int32 × tm_S)) (ρ := Option (Int32 × tm_S)) (fun (v4 : Int32) =>
  tm_b2 (fX8_bad v4 (1 : Int32) (0 : Int32) S1) fun r7 S8 =>
  if r7 = (0 : Int32) then
  ((fX8_copies 468 469 S8).bind fun S12 =>
  LX8_quiet_44 a1 so_N (0 : Int32) (0 : Int32) S12)
  else
  (some ((0 : Int32), S8)))
  (fun J5 =>
  if r3 = (0 : Int32) then
  (J5 (1 : Int32))
  else
  (J5 (0 : Int32)))
set_option maxHeartbeats 4000000 in
set_option maxRecDepth 100000 in
theorem wX8_quiet {res : Int32} {sg' : tm_S} {S0 : so_St}  (a1 : Int32) (hT : tm_Sh S0) (sg : tm_S)  (hf : fX8_quiet a1 sg = some (res, sg')) : jx_Sp 4 yX8_quiet (ws_ yX8_quiet cX8_quiet 5 (Option.some Jvm.ClassFile.FieldType.int)) [.ref (tm_a 0), .int a1] (tm_j S0 sg) (.inl (some (.int res))) (tm_j S0 sg') := by
  refine jx_of (plainFor_of_name (by decide)) (so_le rfl) ?_
  show jg_ ((tm_j S0 sg), (tm_j S0 sg'), .inl (some (.int res))) kX8_quiet 0 [(0, .ref (tm_a 0)), (1, .int a1)] [] (tm_j S0 sg)
  unfold fX8_quiet at hf
  refine jr_aload_n dX8_quiet_0 rfl rfl jv_rr ?_
  refine jr_iconst dX8_quiet_1 ic_0 ?_
  refine tr_putI fp_X8_106_23 dX8_quiet_2 ?_
  refine tm_let_e hf (fun S1 hf => ?_)
  refine jr_aload_n dX8_quiet_5 rfl rfl jv_rr ?_
  refine jr_aload_n dX8_quiet_6 rfl rfl jv_rr ?_
  refine jr_iload_n dX8_quiet_7 rfl rfl ?_
  obtain ⟨r3, h2, hf⟩ := so_b hf
  refine jr_callM (st := [.ref (tm_a 0)]) lk_X8_345_23 (wX8_isPiano a1 hT S1 h2) tm_k23 rfl rfl rfl (so_le rfl) (so_le rfl) dX8_quiet_8 ?_
  refine so_jE hf (fun J => ∀ (v4 : Int32), J v4 = some (res, sg') → jg_ (tm_j S0 sg, tm_j S0 sg', .inl (some (.int res))) kX8_quiet 19 [(0, .ref (tm_a 0)), (1, .int a1)] [.int v4, .ref (tm_a 0)] (tm_j S0 S1)) (fun v4 hf => ?_) (fun J5 hJ5 hf => ?_)
  · refine jr_iconst dX8_quiet_19 ic_1 ?_
    refine jr_iconst dX8_quiet_20 ic_0 ?_
    obtain ⟨r7, S8, h6, hf⟩ := tm_b2E hf
    refine jr_callM (st := []) lk_X8_189_23 (wX8_bad v4 (1 : Int32) (0 : Int32) hT S1 h6) tm_k23 rfl rfl rfl (so_le rfl) (so_le rfl) dX8_quiet_21 ?_
    refine jr_if_eq (tgt := 29) dX8_quiet_24 rfl (fun c9 => ?_) (fun c9 => ?_)
    · have hf := so_t c9 hf
      refine jr_iconst dX8_quiet_29 ic_0 ?_
      refine jr_istore_n (lv' := [(0, .ref (tm_a 0)), (1, .int a1), (2, .int (0 : Int32))]) dX8_quiet_30 rfl (so_le rfl) rfl ?_
      refine jr_aload_n dX8_quiet_31 rfl rfl jv_rr ?_
      refine tr_getR (c := 468) hT (List.mem_of_getElem? (i := 19) rfl) fl_X8_73_23 dX8_quiet_32 ?_
      refine jr_aload_n dX8_quiet_35 rfl rfl jv_rr ?_
      refine tr_getR (c := 469) hT (List.mem_of_getElem? (i := 20) rfl) fl_X8_76_23 dX8_quiet_36 ?_
      obtain ⟨S12, h10, hf⟩ := so_b hf
      refine jr_call (st := []) lk_X8_319 (wX8_copies 468 469 hT S8 (show tm_k 468 = 50 from rfl) (show tm_k 469 = 50 from rfl) h10) jk_r0 rfl rfl (so_le rfl) (so_le rfl) dX8_quiet_39 ?_
      refine jr_iconst dX8_quiet_42 ic_0 ?_
      refine jr_istore_n (lv' := [(0, .ref (tm_a 0)), (1, .int a1), (2, .int (0 : Int32)), (3, .int (0 : Int32))]) dX8_quiet_43 rfl (so_le rfl) rfl ?_
      refine wX8_quiet_44 a1 hT so_N (0 : Int32) (0 : Int32) S12 hf
    · have hf := so_f c9 hf
      refine jr_iconst dX8_quiet_27 ic_0 ?_
      obtain ⟨rfl, rfl⟩ := so_e2 hf
      exact jr_iret rfl rfl dX8_quiet_28
  · refine jr_if_ne (tgt := 18) dX8_quiet_11 rfl (fun c33 => ?_) (fun c33 => ?_)
    · have hf := so_f c33 hf
      refine jr_iconst dX8_quiet_18 ic_0 ?_
      exact hJ5 (0 : Int32) hf
    · have hf := so_t c33 hf
      refine jr_iconst dX8_quiet_14 ic_1 ?_
      refine jr_goto (tgt := 19) dX8_quiet_15 rfl ?_
      exact hJ5 (1 : Int32) hf

/- X8_tunes -/
abbrev kX8_tunes : jx_K := (cX8_tunes, 3, RX8, 7, (Option.some Jvm.ClassFile.FieldType.int), "tunes", [])
def fX8_tunes (a1 : Int32) (a2 : Int32) (sg : tm_S) : Option (Int32 × tm_S) :=
  tm_let (tm_up sg 0 0 (0 : Int32)) fun S1 =>
  (fX8_isPiano a1 S1).bind fun r3 =>
  so_j (κ := Int32 → Option (Int32 × tm_S)) (ρ := Option (Int32 × tm_S)) (fun (v4 : Int32) =>
  tm_b2 (fX8_bad v4 (1 : Int32) (0 : Int32) S1) fun r7 S8 =>
  if r7 = (0 : Int32) then
  ((fX8_copies 468 469 S8).bind fun S12 =>
  so_gd (so_in ((80 : Int32) + a1) 100) fun _ =>
  so_j (κ := tm_S → Option (Int32 × tm_S)) (ρ := Option (Int32 × tm_S)) (fun (S14 : tm_S) =>
  tm_b2 (fX8_brings 469 a1 S14) fun r17 S18 =>
  some (r17, S18))
  (fun J15 =>
  if (S12 468 ((80 : Int32) + a1).toNatClampNeg) = a2 then
  (J15 S12)
  else
  (tm_b2 (fX8_puts2 469 a1 a2 S12) fun r21 S22 =>
  if r21 = (0 : Int32) then
  (some ((-1 : Int32), S22))
  else
  (J15 S22))))
  else
  (some ((0 : Int32), S8)))
  (fun J5 =>
  so_j (κ := Unit → Option (Int32 × tm_S)) (ρ := Option (Int32 × tm_S)) (fun (_u : Unit) =>
  J5 (1 : Int32))
  (fun J24 =>
  if r3 = (0 : Int32) then
  (J24 ())
  else
  ((fX8_isHouse a2 S1).bind fun r27 =>
  if r27 = (0 : Int32) then
  (J24 ())
  else
  (J5 (0 : Int32)))))
set_option maxHeartbeats 4000000 in
set_option maxRecDepth 100000 in
theorem wX8_tunes {res : Int32} {sg' : tm_S} {S0 : so_St}  (a1 : Int32) (a2 : Int32) (hT : tm_Sh S0) (sg : tm_S)  (hf : fX8_tunes a1 a2 sg = some (res, sg')) : jx_Sp 7 yX8_tunes (ws_ yX8_tunes cX8_tunes 3 (Option.some Jvm.ClassFile.FieldType.int)) [.ref (tm_a 0), .int a1, .int a2] (tm_j S0 sg) (.inl (some (.int res))) (tm_j S0 sg') := by
  refine jx_of (plainFor_of_name (by decide)) (so_le rfl) ?_
  show jg_ ((tm_j S0 sg), (tm_j S0 sg'), .inl (some (.int res))) kX8_tunes 0 [(0, .ref (tm_a 0)), (1, .int a1), (2, .int a2)] [] (tm_j S0 sg)
  unfold fX8_tunes at hf
  refine jr_aload_n dX8_tunes_0 rfl rfl jv_rr ?_
  refine jr_iconst dX8_tunes_1 ic_0 ?_
  refine tr_putI fp_X8_106_23 dX8_tunes_2 ?_
  refine tm_let_e hf (fun S1 hf => ?_)
  refine jr_aload_n dX8_tunes_5 rfl rfl jv_rr ?_
  refine jr_aload_n dX8_tunes_6 rfl rfl jv_rr ?_
  refine jr_iload_n dX8_tunes_7 rfl rfl ?_
  obtain ⟨r3, h2, hf⟩ := so_b hf
  refine jr_callM (st := [.ref (tm_a 0)]) lk_X8_345_23 (wX8_isPiano a1 hT S1 h2) tm_k23 rfl rfl rfl (so_le rfl) (so_le rfl) dX8_tunes_8 ?_
  refine so_jE hf (fun J => ∀ (v4 : Int32), J v4 = some (res, sg') → jg_ (tm_j S0 sg, tm_j S0 sg', .inl (some (.int res))) kX8_tunes 27 [(0, .ref (tm_a 0)), (1, .int a1), (2, .int a2)] [.int v4, .ref (tm_a 0)] (tm_j S0 S1)) (fun v4 hf => ?_) (fun J5 hJ5 hf => ?_)
  · refine jr_iconst dX8_tunes_27 ic_1 ?_
    refine jr_iconst dX8_tunes_28 ic_0 ?_
    obtain ⟨r7, S8, h6, hf⟩ := tm_b2E hf
    refine jr_callM (st := []) lk_X8_189_23 (wX8_bad v4 (1 : Int32) (0 : Int32) hT S1 h6) tm_k23 rfl rfl rfl (so_le rfl) (so_le rfl) dX8_tunes_29 ?_
    refine jr_if_eq (tgt := 37) dX8_tunes_32 rfl (fun c9 => ?_) (fun c9 => ?_)
    · have hf := so_t c9 hf
      refine jr_aload_n dX8_tunes_37 rfl rfl jv_rr ?_
      refine tr_getR (c := 468) hT (List.mem_of_getElem? (i := 19) rfl) fl_X8_73_23 dX8_tunes_38 ?_
      refine jr_aload_n dX8_tunes_41 rfl rfl jv_rr ?_
      refine tr_getR (c := 469) hT (List.mem_of_getElem? (i := 20) rfl) fl_X8_76_23 dX8_tunes_42 ?_
      obtain ⟨S12, h10, hf⟩ := so_b hf
      refine jr_call (st := []) lk_X8_319 (wX8_copies 468 469 hT S8 (show tm_k 468 = 50 from rfl) (show tm_k 469 = 50 from rfl) h10) jk_r0 rfl rfl (so_le rfl) (so_le rfl) dX8_tunes_45 ?_
      refine jr_aload_n dX8_tunes_48 rfl rfl jv_rr ?_
      refine tr_getR (c := 468) hT (List.mem_of_getElem? (i := 19) rfl) fl_X8_73_23 dX8_tunes_49 ?_
      refine jr_bipush dX8_tunes_52 bp_80 ?_
      refine jr_iload_n dX8_tunes_54 rfl rfl ?_
      refine jr_iadd dX8_tunes_55 ?_
      obtain ⟨g13, hf⟩ := so_gdE hf
      refine tr_iaload hT (show tm_k 468 = 50 from rfl) rfl (so_inE g13) dX8_tunes_56 ?_
      refine jr_iload_n dX8_tunes_57 rfl rfl ?_
      refine so_jE hf (fun J => ∀ (S14 : tm_S), J S14 = some (res, sg') → jg_ (tm_j S0 sg, tm_j S0 sg', .inl (some (.int res))) kX8_tunes 76 [(0, .ref (tm_a 0)), (1, .int a1)] [] (tm_j S0 S14)) (fun S14 hf => ?_) (fun J15 hJ15 hf => ?_)
      · refine jr_aload_n dX8_tunes_76 rfl rfl jv_rr ?_
        refine jr_aload_n dX8_tunes_77 rfl rfl jv_rr ?_
        refine tr_getR (c := 469) hT (List.mem_of_getElem? (i := 20) rfl) fl_X8_76_23 dX8_tunes_78 ?_
        refine jr_iload_n dX8_tunes_81 rfl rfl ?_
        obtain ⟨r17, S18, h16, hf⟩ := tm_b2E hf
        refine jr_callM (st := []) lk_X8_296_23 (wX8_brings 469 a1 hT S14 (show tm_k 469 = 50 from rfl) h16) tm_k23 rfl rfl rfl (so_le rfl) (so_le rfl) dX8_tunes_82 ?_
        obtain ⟨rfl, rfl⟩ := so_e2 hf
        exact jr_iret rfl rfl dX8_tunes_85
      · refine jr_icmp_eq (tgt := 76) dX8_tunes_58 rfl (fun c19 => ?_) (fun c19 => ?_)
        · have hf := so_t c19 hf
          refine jr_sub [0, 1] rfl ?_
          exact hJ15 S12 hf
        · have hf := so_f c19 hf
          refine jr_aload_n dX8_tunes_61 rfl rfl jv_rr ?_
          refine jr_aload_n dX8_tunes_62 rfl rfl jv_rr ?_
          refine tr_getR (c := 469) hT (List.mem_of_getElem? (i := 20) rfl) fl_X8_76_23 dX8_tunes_63 ?_
          refine jr_iload_n dX8_tunes_66 rfl rfl ?_
          refine jr_iload_n dX8_tunes_67 rfl rfl ?_
          obtain ⟨r21, S22, h20, hf⟩ := tm_b2E hf
          refine jr_callM (st := []) lk_X8_299_23 (wX8_puts2 469 a1 a2 hT S12 (show tm_k 469 = 50 from rfl) h20) tm_k23 rfl rfl rfl (so_le rfl) (so_le rfl) dX8_tunes_68 ?_
          refine jr_if_ne (tgt := 76) dX8_tunes_71 rfl (fun c23 => ?_) (fun c23 => ?_)
          · have hf := so_f c23 hf
            refine jr_sub [0, 1] rfl ?_
            exact hJ15 S22 hf
          · have hf := so_t c23 hf
            refine jr_iconst dX8_tunes_74 ic_m1 ?_
            obtain ⟨rfl, rfl⟩ := so_e2 hf
            exact jr_iret rfl rfl dX8_tunes_75
    · have hf := so_f c9 hf
      refine jr_iconst dX8_tunes_35 ic_0 ?_
      obtain ⟨rfl, rfl⟩ := so_e2 hf
      exact jr_iret rfl rfl dX8_tunes_36
  · refine so_jE hf (fun J => ∀ (u0 : Unit), J u0 = some (res, sg') → jg_ (tm_j S0 sg, tm_j S0 sg', .inl (some (.int res))) kX8_tunes 22 [(0, .ref (tm_a 0)), (1, .int a1), (2, .int a2)] [.ref (tm_a 0)] (tm_j S0 S1)) (fun _u hf => ?_) (fun J24 hJ24 hf => ?_)
    · refine jr_iconst dX8_tunes_22 ic_1 ?_
      refine jr_goto (tgt := 27) dX8_tunes_23 rfl ?_
      exact hJ5 (1 : Int32) hf
    · refine jr_if_eq (tgt := 22) dX8_tunes_11 rfl (fun c25 => ?_) (fun c25 => ?_)
      · have hf := so_t c25 hf
        exact hJ24 () hf
      · have hf := so_f c25 hf
        refine jr_aload_n dX8_tunes_14 rfl rfl jv_rr ?_
        refine jr_iload_n dX8_tunes_15 rfl rfl ?_
        obtain ⟨r27, h26, hf⟩ := so_b hf
        refine jr_callM (st := [.ref (tm_a 0)]) lk_X8_339_23 (wX8_isHouse a2 hT S1 h26) tm_k23 rfl rfl rfl (so_le rfl) (so_le rfl) dX8_tunes_16 ?_
        refine jr_if_ne (tgt := 26) dX8_tunes_19 rfl (fun c28 => ?_) (fun c28 => ?_)
        · have hf := so_f c28 hf
          refine jr_iconst dX8_tunes_26 ic_0 ?_
          exact hJ5 (0 : Int32) hf
        · have hf := so_t c28 hf
          exact hJ24 () hf

/- X8_oldest -/
abbrev kX8_oldest : jx_K := (cX8_oldest, 5, RX8, 1, (Option.some Jvm.ClassFile.FieldType.int), "oldest", [])
def LX8_oldest_37 (f1 : Int32) (k99 : Int32 → Int32 → tm_S → Option (Int32 × tm_S)) : Nat → Int32 → Int32 → Int32 → tm_S → Option (Int32 × tm_S)
  | 0, _, _, _, _ => none
  | n + 1, v8, v9, v10, S11 =>
    so_gd (so_in (2 : Int32) 4) fun _ =>
    if (S11 4 (2 : Int32).toNatClampNeg) ≤ v10 then
    (k99 v8 v9 S11)
    else
    (so_gd (so_in ((80 : Int32) + v10) 100) fun _ =>
    so_j (κ := Int32 → Int32 → Option (Int32 × tm_S)) (ρ := Option (Int32 × tm_S)) (fun (v15 : Int32) (v16 : Int32) =>
    LX8_oldest_37 f1 k99 n v15 v16 (v10 + (1 : Int32)) S11)
    (fun J17 =>
    if (S11 468 ((80 : Int32) + v10).toNatClampNeg) = (-1 : Int32) then
    (J17 v8 v9)
    else
    (so_gd (so_in ((92 : Int32) + v10) 100) fun _ =>
    if v9 < (S11 468 ((92 : Int32) + v10).toNatClampNeg) then
    (so_gd (so_in ((92 : Int32) + v10) 100) fun _ =>
    J17 v10 (S11 468 ((92 : Int32) + v10).toNatClampNeg))
    else
    (J17 v8 v9))))
set_option maxHeartbeats 4000000 in
set_option maxRecDepth 100000 in
theorem wX8_oldest_37 {res : Int32} {sg' : tm_S} {S0 : so_St} {sg0 : tm_S}   (f1 : Int32) (hT : tm_Sh S0)   (k99 : Int32 → Int32 → tm_S → Option (Int32 × tm_S)) (h99 : ∀ (v22 : Int32) (v23 : Int32) (S24 : tm_S), k99 v22 v23 S24 = some (res, sg') → jg_ (tm_j S0 sg0, tm_j S0 sg', .inl (some (.int res))) kX8_oldest 99 [(1, .int f1), (2, .int v22), (3, .int v23)] [] (tm_j S0 S24)) : ∀ (n : Nat) (v8 : Int32) (v9 : Int32) (v10 : Int32) (S11 : tm_S), LX8_oldest_37 f1 k99 n v8 v9 v10 S11 = some (res, sg') → jg_ (tm_j S0 sg0, tm_j S0 sg', .inl (some (.int res))) kX8_oldest 37 [(0, .ref (tm_a 0)), (1, .int f1), (2, .int v8), (3, .int v9), (4, .int v10)] [] (tm_j S0 S11) := by
  intro n
  induction n with
  | zero =>
    intro v8 v9 v10 S11 hf
    exact so_no hf
  | succ n ih =>
    intro v8 v9 v10 S11 hf
    rw [LX8_oldest_37] at hf
    refine jr_iload dX8_oldest_37 rfl ?_
    refine jr_aload_n dX8_oldest_39 rfl rfl jv_rr ?_
    refine tr_getR (c := 4) hT (List.mem_of_getElem? (i := 3) rfl) fl_X8_23_23 dX8_oldest_40 ?_
    refine jr_iconst dX8_oldest_43 ic_2 ?_
    obtain ⟨g12, hf⟩ := so_gdE hf
    refine tr_iaload hT (show tm_k 4 = 50 from rfl) rfl (so_inE g12) dX8_oldest_44 ?_
    refine jr_icmp_ge (tgt := 99) dX8_oldest_45 rfl (fun c13 => ?_) (fun c13 => ?_)
    · have hf := so_t c13 hf
      refine jr_sub [1, 2, 3] rfl ?_
      exact h99 v8 v9 S11 hf
    · have hf := so_f c13 hf
      refine jr_aload_n dX8_oldest_48 rfl rfl jv_rr ?_
      refine tr_getR (c := 468) hT (List.mem_of_getElem? (i := 19) rfl) fl_X8_73_23 dX8_oldest_49 ?_
      refine jr_bipush dX8_oldest_52 bp_80 ?_
      refine jr_iload dX8_oldest_54 rfl ?_
      refine jr_iadd dX8_oldest_56 ?_
      obtain ⟨g14, hf⟩ := so_gdE hf
      refine tr_iaload hT (show tm_k 468 = 50 from rfl) rfl (so_inE g14) dX8_oldest_57 ?_
      refine jr_iconst dX8_oldest_58 ic_m1 ?_
      refine so_jE hf (fun J => ∀ (v15 : Int32) (v16 : Int32), J v15 v16 = some (res, sg') → jg_ (tm_j S0 sg0, tm_j S0 sg', .inl (some (.int res))) kX8_oldest 93 [(0, .ref (tm_a 0)), (1, .int f1), (2, .int v15), (3, .int v16), (4, .int v10)] [] (tm_j S0 S11)) (fun v15 v16 hf => ?_) (fun J17 hJ17 hf => ?_)
      · refine jr_iinc (v := v10 + (1 : Int32)) (lv' := [(0, .ref (tm_a 0)), (1, .int f1), (2, .int v15), (3, .int v16), (4, .int (v10 + (1 : Int32)))]) dX8_oldest_93 rfl rfl (so_le rfl) rfl ?_
        refine jr_goto (tgt := 37) dX8_oldest_96 rfl ?_
        exact ih v15 v16 (v10 + (1 : Int32)) S11 hf
      · refine jr_icmp_eq (tgt := 93) dX8_oldest_59 rfl (fun c18 => ?_) (fun c18 => ?_)
        · have hf := so_t c18 hf
          exact hJ17 v8 v9 hf
        · have hf := so_f c18 hf
          refine jr_aload_n dX8_oldest_62 rfl rfl jv_rr ?_
          refine tr_getR (c := 468) hT (List.mem_of_getElem? (i := 19) rfl) fl_X8_73_23 dX8_oldest_63 ?_
          refine jr_bipush dX8_oldest_66 bp_92 ?_
          refine jr_iload dX8_oldest_68 rfl ?_
          refine jr_iadd dX8_oldest_70 ?_
          obtain ⟨g19, hf⟩ := so_gdE hf
          refine tr_iaload hT (show tm_k 468 = 50 from rfl) rfl (so_inE g19) dX8_oldest_71 ?_
          refine jr_iload_n dX8_oldest_72 rfl rfl ?_
          refine jr_icmp_gt (tgt := 79) dX8_oldest_73 rfl (fun c20 => ?_) (fun c20 => ?_)
          · have hf := so_t c20 hf
            refine jr_iload dX8_oldest_79 rfl ?_
            refine jr_istore_n (lv' := [(0, .ref (tm_a 0)), (1, .int f1), (2, .int v10), (3, .int v9), (4, .int v10)]) dX8_oldest_81 rfl (so_le rfl) rfl ?_
            refine jr_aload_n dX8_oldest_82 rfl rfl jv_rr ?_
            refine tr_getR (c := 468) hT (List.mem_of_getElem? (i := 19) rfl) fl_X8_73_23 dX8_oldest_83 ?_
            refine jr_bipush dX8_oldest_86 bp_92 ?_
            refine jr_iload dX8_oldest_88 rfl ?_
            refine jr_iadd dX8_oldest_90 ?_
            obtain ⟨g21, hf⟩ := so_gdE hf
            refine tr_iaload hT (show tm_k 468 = 50 from rfl) rfl (so_inE g21) dX8_oldest_91 ?_
            refine jr_istore_n (lv' := [(0, .ref (tm_a 0)), (1, .int f1), (2, .int v10), (3, .int (S11 468 ((92 : Int32) + v10).toNatClampNeg)), (4, .int v10)]) dX8_oldest_92 rfl (so_le rfl) rfl ?_
            exact hJ17 v10 (S11 468 ((92 : Int32) + v10).toNatClampNeg) hf
          · have hf := so_f c20 hf
            refine jr_goto (tgt := 93) dX8_oldest_76 rfl ?_
            exact hJ17 v8 v9 hf
def fX8_oldest (a1 : Int32) (sg : tm_S) : Option (Int32 × tm_S) :=
  tm_let (tm_up sg 0 0 (0 : Int32)) fun S1 =>
  so_j (κ := Int32 → Option (Int32 × tm_S)) (ρ := Option (Int32 × tm_S)) (fun (v2 : Int32) =>
  tm_b2 (fX8_bad v2 (1 : Int32) (1 : Int32) S1) fun r5 S6 =>
  if r5 = (0 : Int32) then
  (LX8_oldest_37 a1 (fun (v25 : Int32) (v26 : Int32) (S27 : tm_S) =>
  if a1 = (0 : Int32) then
  (some (v25, S27))
  else
  (some (v26, S27))) so_N (-1 : Int32) (-1 : Int32) (0 : Int32) S6)
  else
  (some ((0 : Int32), S6)))
  (fun J3 =>
  if (fX8_in a1 (0 : Int32) (1 : Int32)) = (0 : Int32) then
  (J3 (1 : Int32))
  else
  (J3 (0 : Int32)))
set_option maxHeartbeats 4000000 in
set_option maxRecDepth 100000 in
theorem wX8_oldest {res : Int32} {sg' : tm_S} {S0 : so_St}  (a1 : Int32) (hT : tm_Sh S0) (sg : tm_S)  (hf : fX8_oldest a1 sg = some (res, sg')) : jx_Sp 1 yX8_oldest (ws_ yX8_oldest cX8_oldest 5 (Option.some Jvm.ClassFile.FieldType.int)) [.ref (tm_a 0), .int a1] (tm_j S0 sg) (.inl (some (.int res))) (tm_j S0 sg') := by
  refine jx_of (plainFor_of_name (by decide)) (so_le rfl) ?_
  show jg_ ((tm_j S0 sg), (tm_j S0 sg'), .inl (some (.int res))) kX8_oldest 0 [(0, .ref (tm_a 0)), (1, .int a1)] [] (tm_j S0 sg)
  unfold fX8_oldest at hf
  refine jr_aload_n dX8_oldest_0 rfl rfl jv_rr ?_
  refine jr_iconst dX8_oldest_1 ic_0 ?_
  refine tr_putI fp_X8_106_23 dX8_oldest_2 ?_
  refine tm_let_e hf (fun S1 hf => ?_)
  refine jr_aload_n dX8_oldest_5 rfl rfl jv_rr ?_
  refine jr_iload_n dX8_oldest_6 rfl rfl ?_
  refine jr_iconst dX8_oldest_7 ic_0 ?_
  refine jr_iconst dX8_oldest_8 ic_1 ?_
  refine jr_call (st := [.ref (tm_a 0)]) lk_X8_140 (wX8_in a1 (0 : Int32) (1 : Int32) hT S1 rfl) jk_r0 rfl rfl (so_le rfl) (so_le rfl) dX8_oldest_9 ?_
  refine so_jE hf (fun J => ∀ (v2 : Int32), J v2 = some (res, sg') → jg_ (tm_j S0 sg, tm_j S0 sg', .inl (some (.int res))) kX8_oldest 20 [(0, .ref (tm_a 0)), (1, .int a1)] [.int v2, .ref (tm_a 0)] (tm_j S0 S1)) (fun v2 hf => ?_) (fun J3 hJ3 hf => ?_)
  · refine jr_iconst dX8_oldest_20 ic_1 ?_
    refine jr_iconst dX8_oldest_21 ic_1 ?_
    obtain ⟨r5, S6, h4, hf⟩ := tm_b2E hf
    refine jr_callM (st := []) lk_X8_189_23 (wX8_bad v2 (1 : Int32) (1 : Int32) hT S1 h4) tm_k23 rfl rfl rfl (so_le rfl) (so_le rfl) dX8_oldest_22 ?_
    refine jr_if_eq (tgt := 30) dX8_oldest_25 rfl (fun c7 => ?_) (fun c7 => ?_)
    · have hf := so_t c7 hf
      refine jr_iconst dX8_oldest_30 ic_m1 ?_
      refine jr_istore_n (lv' := [(0, .ref (tm_a 0)), (1, .int a1), (2, .int (-1 : Int32))]) dX8_oldest_31 rfl (so_le rfl) rfl ?_
      refine jr_iconst dX8_oldest_32 ic_m1 ?_
      refine jr_istore_n (lv' := [(0, .ref (tm_a 0)), (1, .int a1), (2, .int (-1 : Int32)), (3, .int (-1 : Int32))]) dX8_oldest_33 rfl (so_le rfl) rfl ?_
      refine jr_iconst dX8_oldest_34 ic_0 ?_
      refine jr_istore (lv' := [(0, .ref (tm_a 0)), (1, .int a1), (2, .int (-1 : Int32)), (3, .int (-1 : Int32)), (4, .int (0 : Int32))]) dX8_oldest_35 (so_le rfl) rfl ?_
      refine wX8_oldest_37 a1 hT _ (fun v25 v26 S27 hf => ?_) so_N (-1 : Int32) (-1 : Int32) (0 : Int32) S6 hf
      refine jr_iload_n dX8_oldest_99 rfl rfl ?_
      refine jr_if_ne (tgt := 107) dX8_oldest_100 rfl (fun c28 => ?_) (fun c28 => ?_)
      · have hf := so_f c28 hf
        refine jr_iload_n dX8_oldest_107 rfl rfl ?_
        obtain ⟨rfl, rfl⟩ := so_e2 hf
        exact jr_iret rfl rfl dX8_oldest_108
      · have hf := so_t c28 hf
        refine jr_iload_n dX8_oldest_103 rfl rfl ?_
        refine jr_goto (tgt := 108) dX8_oldest_104 rfl ?_
        obtain ⟨rfl, rfl⟩ := so_e2 hf
        exact jr_iret rfl rfl dX8_oldest_108
    · have hf := so_f c7 hf
      refine jr_iconst dX8_oldest_28 ic_0 ?_
      obtain ⟨rfl, rfl⟩ := so_e2 hf
      exact jr_iret rfl rfl dX8_oldest_29
  · refine jr_if_ne (tgt := 19) dX8_oldest_12 rfl (fun c29 => ?_) (fun c29 => ?_)
    · have hf := so_f c29 hf
      refine jr_iconst dX8_oldest_19 ic_0 ?_
      exact hJ3 (0 : Int32) hf
    · have hf := so_t c29 hf
      refine jr_iconst dX8_oldest_15 ic_1 ?_
      refine jr_goto (tgt := 20) dX8_oldest_16 rfl ?_
      exact hJ3 (1 : Int32) hf
