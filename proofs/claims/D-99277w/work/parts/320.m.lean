/-! printed: functions and walks -/
set_option maxRecDepth 100000
set_option linter.unusedVariables false
/- X8_copies -/
abbrev kX8_copies : jx_K := (cX8_copies, 3, RX8, 0, (Option.none : Option Jvm.ClassFile.FieldType), "copies", [])
def LX8_copies_2 (f0 : Nat) (f1 : Nat) : Nat → Int32 → tm_S → Option tm_S
  | 0, _, _ => none
  | n + 1, v1, S2 =>
    if (100 : Int32) ≤ v1 then
    (some S2)
    else
    (so_gd (so_in v1 (tm_len f0)) fun _ =>
    so_gd (so_in v1 (tm_len f1)) fun _ =>
    tm_let (tm_up S2 f1 v1.toNatClampNeg (S2 f0 v1.toNatClampNeg)) fun S6 =>
    LX8_copies_2 f0 f1 n (v1 + (1 : Int32)) S6)
set_option maxHeartbeats 4000000 in
set_option maxRecDepth 100000 in
theorem wX8_copies_2 {sg' : tm_S} {S0 : so_St} {sg0 : tm_S}   (f0 : Nat) (f1 : Nat) (hT : tm_Sh S0)  (k_f0 : tm_k f0 = 50) (k_f1 : tm_k f1 = 50) : ∀ (n : Nat) (v1 : Int32) (S2 : tm_S), LX8_copies_2 f0 f1 n v1 S2 = some sg' → jg_ (tm_j S0 sg0, tm_j S0 sg', .inl none) kX8_copies 2 [(0, .ref (tm_a f0)), (1, .ref (tm_a f1)), (2, .int v1)] [] (tm_j S0 S2) := by
  intro n
  induction n with
  | zero =>
    intro v1 S2 hf
    exact so_no hf
  | succ n ih =>
    intro v1 S2 hf
    rw [LX8_copies_2] at hf
    refine jr_iload_n dX8_copies_2 rfl rfl ?_
    refine jr_bipush dX8_copies_3 bp_100 ?_
    refine jr_icmp_ge (tgt := 20) dX8_copies_5 rfl (fun c3 => ?_) (fun c3 => ?_)
    · have hf := so_t c3 hf
      obtain rfl := so_e1 hf
      exact jr_vret rfl dX8_copies_20
    · have hf := so_f c3 hf
      refine jr_aload_n dX8_copies_8 rfl rfl jv_rr ?_
      refine jr_iload_n dX8_copies_9 rfl rfl ?_
      refine jr_aload_n dX8_copies_10 rfl rfl jv_rr ?_
      refine jr_iload_n dX8_copies_11 rfl rfl ?_
      obtain ⟨g4, hf⟩ := so_gdE hf
      refine tr_iaload hT k_f0 rfl (so_inE g4) dX8_copies_12 ?_
      obtain ⟨g5, hf⟩ := so_gdE hf
      refine tr_iastore hT k_f1 rfl (so_inE g5) dX8_copies_13 ?_
      refine tm_let_e hf (fun S6 hf => ?_)
      refine jr_iinc (v := v1 + (1 : Int32)) (lv' := [(0, .ref (tm_a f0)), (1, .ref (tm_a f1)), (2, .int (v1 + (1 : Int32)))]) dX8_copies_14 rfl rfl (so_le rfl) rfl ?_
      refine jr_goto (tgt := 2) dX8_copies_17 rfl ?_
      exact ih (v1 + (1 : Int32)) S6 hf
def fX8_copies (a0 : Nat) (a1 : Nat) (sg : tm_S) : Option tm_S :=
  LX8_copies_2 a0 a1 so_N (0 : Int32) sg
set_option maxHeartbeats 4000000 in
set_option maxRecDepth 100000 in
theorem wX8_copies {sg' : tm_S} {S0 : so_St}  (a0 : Nat) (a1 : Nat) (hT : tm_Sh S0) (sg : tm_S) (k_a0 : tm_k a0 = 50) (k_a1 : tm_k a1 = 50) (hf : fX8_copies a0 a1 sg = some sg') : jx_Sp 0 yX8_copies (ws_ yX8_copies cX8_copies 3 (Option.none : Option Jvm.ClassFile.FieldType)) [.ref (tm_a a0), .ref (tm_a a1)] (tm_j S0 sg) (.inl none) (tm_j S0 sg') := by
  refine jx_of (plainFor_of_name (by decide)) (so_le rfl) ?_
  show jg_ ((tm_j S0 sg), (tm_j S0 sg'), .inl none) kX8_copies 0 [(0, .ref (tm_a a0)), (1, .ref (tm_a a1))] [] (tm_j S0 sg)
  unfold fX8_copies at hf
  refine jr_iconst dX8_copies_0 ic_0 ?_
  refine jr_istore_n (lv' := [(0, .ref (tm_a a0)), (1, .ref (tm_a a1)), (2, .int (0 : Int32))]) dX8_copies_1 rfl (so_le rfl) rfl ?_
  refine wX8_copies_2 a0 a1 hT k_a0 k_a1 so_N (0 : Int32) sg hf

/- X8_pianoIn -/
abbrev kX8_pianoIn : jx_K := (cX8_pianoIn, 4, RX8, 0, (Option.some Jvm.ClassFile.FieldType.int), "pianoIn", [])
def LX8_pianoIn_2 (f1 : Nat) (f2 : Int32) (sg : tm_S) : Nat → Int32 → Option Int32
  | 0, _ => none
  | n + 1, v1 =>
    so_gd (so_in (2 : Int32) 4) fun _ =>
    if (sg 4 (2 : Int32).toNatClampNeg) ≤ v1 then
    (some (-1 : Int32))
    else
    (so_gd (so_in ((80 : Int32) + v1) (tm_len f1)) fun _ =>
    if (sg f1 ((80 : Int32) + v1).toNatClampNeg) = f2 then
    (some v1)
    else
    (LX8_pianoIn_2 f1 f2 sg n (v1 + (1 : Int32))))
set_option maxHeartbeats 4000000 in
set_option maxRecDepth 100000 in
theorem wX8_pianoIn_2 {res : Int32} {S0 : so_St}   (f1 : Nat) (f2 : Int32) (hT : tm_Sh S0) (sg : tm_S) (k_f1 : tm_k f1 = 50) : ∀ (n : Nat) (v1 : Int32), LX8_pianoIn_2 f1 f2 sg n v1 = some res → jg_ (tm_j S0 sg, tm_j S0 sg, .inl (some (.int res))) kX8_pianoIn 2 [(0, .ref (tm_a 0)), (1, .ref (tm_a f1)), (2, .int f2), (3, .int v1)] [] (tm_j S0 sg) := by
  intro n
  induction n with
  | zero =>
    intro v1 hf
    exact so_no hf
  | succ n ih =>
    intro v1 hf
    rw [LX8_pianoIn_2] at hf
    refine jr_iload_n dX8_pianoIn_2 rfl rfl ?_
    refine jr_aload_n dX8_pianoIn_3 rfl rfl jv_rr ?_
    refine tr_getR (c := 4) hT (List.mem_of_getElem? (i := 3) rfl) fl_X8_23_23 dX8_pianoIn_4 ?_
    refine jr_iconst dX8_pianoIn_7 ic_2 ?_
    obtain ⟨g2, hf⟩ := so_gdE hf
    refine tr_iaload hT (show tm_k 4 = 50 from rfl) rfl (so_inE g2) dX8_pianoIn_8 ?_
    refine jr_icmp_ge (tgt := 30) dX8_pianoIn_9 rfl (fun c3 => ?_) (fun c3 => ?_)
    · have hf := so_t c3 hf
      refine jr_iconst dX8_pianoIn_30 ic_m1 ?_
      obtain rfl := so_e1 hf
      exact jr_iret rfl rfl dX8_pianoIn_31
    · have hf := so_f c3 hf
      refine jr_aload_n dX8_pianoIn_12 rfl rfl jv_rr ?_
      refine jr_bipush dX8_pianoIn_13 bp_80 ?_
      refine jr_iload_n dX8_pianoIn_15 rfl rfl ?_
      refine jr_iadd dX8_pianoIn_16 ?_
      obtain ⟨g4, hf⟩ := so_gdE hf
      refine tr_iaload hT k_f1 rfl (so_inE g4) dX8_pianoIn_17 ?_
      refine jr_iload_n dX8_pianoIn_18 rfl rfl ?_
      refine jr_icmp_ne (tgt := 24) dX8_pianoIn_19 rfl (fun c5 => ?_) (fun c5 => ?_)
      · have hf := so_f c5 hf
        refine jr_iinc (v := v1 + (1 : Int32)) (lv' := [(0, .ref (tm_a 0)), (1, .ref (tm_a f1)), (2, .int f2), (3, .int (v1 + (1 : Int32)))]) dX8_pianoIn_24 rfl rfl (so_le rfl) rfl ?_
        refine jr_goto (tgt := 2) dX8_pianoIn_27 rfl ?_
        exact ih (v1 + (1 : Int32)) hf
      · have hf := so_t c5 hf
        refine jr_iload_n dX8_pianoIn_22 rfl rfl ?_
        obtain rfl := so_e1 hf
        exact jr_iret rfl rfl dX8_pianoIn_23
def fX8_pianoIn (a1 : Nat) (a2 : Int32) (sg : tm_S) : Option Int32 :=
  LX8_pianoIn_2 a1 a2 sg so_N (0 : Int32)
set_option maxHeartbeats 4000000 in
set_option maxRecDepth 100000 in
theorem wX8_pianoIn {res : Int32} {S0 : so_St}  (a1 : Nat) (a2 : Int32) (hT : tm_Sh S0) (sg : tm_S) (k_a1 : tm_k a1 = 50) (hf : fX8_pianoIn a1 a2 sg = some res) : jx_Sp 0 yX8_pianoIn (ws_ yX8_pianoIn cX8_pianoIn 4 (Option.some Jvm.ClassFile.FieldType.int)) [.ref (tm_a 0), .ref (tm_a a1), .int a2] (tm_j S0 sg) (.inl (some (.int res))) (tm_j S0 sg) := by
  refine jx_of (plainFor_of_name (by decide)) (so_le rfl) ?_
  show jg_ ((tm_j S0 sg), (tm_j S0 sg), .inl (some (.int res))) kX8_pianoIn 0 [(0, .ref (tm_a 0)), (1, .ref (tm_a a1)), (2, .int a2)] [] (tm_j S0 sg)
  unfold fX8_pianoIn at hf
  refine jr_iconst dX8_pianoIn_0 ic_0 ?_
  refine jr_istore_n (lv' := [(0, .ref (tm_a 0)), (1, .ref (tm_a a1)), (2, .int a2), (3, .int (0 : Int32))]) dX8_pianoIn_1 rfl (so_le rfl) rfl ?_
  refine wX8_pianoIn_2 a1 a2 hT sg k_a1 so_N (0 : Int32) hf

/- X8_puts2 -/
abbrev kX8_puts2 : jx_K := (cX8_puts2, 4, RX8, 1, (Option.some Jvm.ClassFile.FieldType.boolean), "puts2", [])
def fX8_puts2 (a1 : Nat) (a2 : Int32) (a3 : Int32) (sg : tm_S) : Option (Int32 × tm_S) :=
  (fX8_pianoIn a1 a3 sg).bind fun r2 =>
  if r2 = (-1 : Int32) then
  (so_gd (so_in ((80 : Int32) + a2) (tm_len a1)) fun _ =>
  tm_let (tm_up sg a1 ((80 : Int32) + a2).toNatClampNeg a3) fun S5 =>
  so_gd (so_in ((92 : Int32) + a2) (tm_len a1)) fun _ =>
  tm_let (tm_up S5 a1 ((92 : Int32) + a2).toNatClampNeg (0 : Int32)) fun S7 =>
  some ((1 : Int32), S7))
  else
  (some ((0 : Int32), sg))
set_option maxHeartbeats 4000000 in
set_option maxRecDepth 100000 in
theorem wX8_puts2 {res : Int32} {sg' : tm_S} {S0 : so_St}  (a1 : Nat) (a2 : Int32) (a3 : Int32) (hT : tm_Sh S0) (sg : tm_S) (k_a1 : tm_k a1 = 50) (hf : fX8_puts2 a1 a2 a3 sg = some (res, sg')) : jx_Sp 1 yX8_puts2 (ws_ yX8_puts2 cX8_puts2 4 (Option.some Jvm.ClassFile.FieldType.boolean)) [.ref (tm_a 0), .ref (tm_a a1), .int a2, .int a3] (tm_j S0 sg) (.inl (some (.int res))) (tm_j S0 sg') := by
  refine jx_of (plainFor_of_name (by decide)) (so_le rfl) ?_
  show jg_ ((tm_j S0 sg), (tm_j S0 sg'), .inl (some (.int res))) kX8_puts2 0 [(0, .ref (tm_a 0)), (1, .ref (tm_a a1)), (2, .int a2), (3, .int a3)] [] (tm_j S0 sg)
  unfold fX8_puts2 at hf
  refine jr_aload_n dX8_puts2_0 rfl rfl jv_rr ?_
  refine jr_aload_n dX8_puts2_1 rfl rfl jv_rr ?_
  refine jr_iload_n dX8_puts2_2 rfl rfl ?_
  obtain ⟨r2, h1, hf⟩ := so_b hf
  refine jr_callM (st := []) lk_X8_293_23 (wX8_pianoIn a1 a3 hT sg k_a1 h1) tm_k23 rfl rfl rfl (so_le rfl) (so_le rfl) dX8_puts2_3 ?_
  refine jr_iconst dX8_puts2_6 ic_m1 ?_
  refine jr_icmp_eq (tgt := 12) dX8_puts2_7 rfl (fun c3 => ?_) (fun c3 => ?_)
  · have hf := so_t c3 hf
    refine jr_aload_n dX8_puts2_12 rfl rfl jv_rr ?_
    refine jr_bipush dX8_puts2_13 bp_80 ?_
    refine jr_iload_n dX8_puts2_15 rfl rfl ?_
    refine jr_iadd dX8_puts2_16 ?_
    refine jr_iload_n dX8_puts2_17 rfl rfl ?_
    obtain ⟨g4, hf⟩ := so_gdE hf
    refine tr_iastore hT k_a1 rfl (so_inE g4) dX8_puts2_18 ?_
    refine tm_let_e hf (fun S5 hf => ?_)
    refine jr_aload_n dX8_puts2_19 rfl rfl jv_rr ?_
    refine jr_bipush dX8_puts2_20 bp_92 ?_
    refine jr_iload_n dX8_puts2_22 rfl rfl ?_
    refine jr_iadd dX8_puts2_23 ?_
    refine jr_iconst dX8_puts2_24 ic_0 ?_
    obtain ⟨g6, hf⟩ := so_gdE hf
    refine tr_iastore hT k_a1 rfl (so_inE g6) dX8_puts2_25 ?_
    refine tm_let_e hf (fun S7 hf => ?_)
    refine jr_iconst dX8_puts2_26 ic_1 ?_
    obtain ⟨rfl, rfl⟩ := so_e2 hf
    exact jr_iret rfl rfl dX8_puts2_27
  · have hf := so_f c3 hf
    refine jr_iconst dX8_puts2_10 ic_0 ?_
    obtain ⟨rfl, rfl⟩ := so_e2 hf
    exact jr_iret rfl rfl dX8_puts2_11

/- X8_isWall -/
abbrev kX8_isWall : jx_K := (cX8_isWall, 4, RX8, 0, (Option.some Jvm.ClassFile.FieldType.boolean), "isWall", [])
def LX8_isWall_2 (f1 : Int32) (f2 : Int32) (sg : tm_S) : Nat → Int32 → Option Int32
  | 0, _ => none
  | n + 1, v1 =>
    so_gd (so_in (1 : Int32) 4) fun _ =>
    if (sg 4 (1 : Int32).toNatClampNeg) ≤ v1 then
    (some (0 : Int32))
    else
    (so_gd (so_in v1 12) fun _ =>
    so_gd (so_in (0 : Int32) 2) fun _ =>
    so_j (κ := Unit → Option Int32) (ρ := Option Int32) (fun (_u : Unit) =>
    so_gd (so_in v1 12) fun _ =>
    so_gd (so_in (0 : Int32) 2) fun _ =>
    so_j (κ := Unit → Option Int32) (ρ := Option Int32) (fun (_u : Unit) =>
    LX8_isWall_2 f1 f2 sg n (v1 + (1 : Int32)))
    (fun J9 =>
    if (sg (23 + v1.toNatClampNeg) (0 : Int32).toNatClampNeg) = f2 then
    (so_gd (so_in v1 12) fun _ =>
    so_gd (so_in (1 : Int32) 2) fun _ =>
    if (sg (23 + v1.toNatClampNeg) (1 : Int32).toNatClampNeg) = f1 then
    (some (1 : Int32))
    else
    (J9 ()))
    else
    (J9 ())))
    (fun J6 =>
    if (sg (23 + v1.toNatClampNeg) (0 : Int32).toNatClampNeg) = f1 then
    (so_gd (so_in v1 12) fun _ =>
    so_gd (so_in (1 : Int32) 2) fun _ =>
    if (sg (23 + v1.toNatClampNeg) (1 : Int32).toNatClampNeg) = f2 then
    (some (1 : Int32))
    else
    (J6 ()))
    else
    (J6 ())))
set_option maxHeartbeats 4000000 in
set_option maxRecDepth 100000 in
theorem wX8_isWall_2 {res : Int32} {S0 : so_St}   (f1 : Int32) (f2 : Int32) (hT : tm_Sh S0) (sg : tm_S)  : ∀ (n : Nat) (v1 : Int32), LX8_isWall_2 f1 f2 sg n v1 = some res → jg_ (tm_j S0 sg, tm_j S0 sg, .inl (some (.int res))) kX8_isWall 2 [(0, .ref (tm_a 0)), (1, .int f1), (2, .int f2), (3, .int v1)] [] (tm_j S0 sg) := by
  intro n
  induction n with
  | zero =>
    intro v1 hf
    exact so_no hf
  | succ n ih =>
    intro v1 hf
    rw [LX8_isWall_2] at hf
    refine jr_iload_n dX8_isWall_2 rfl rfl ?_
    refine jr_aload_n dX8_isWall_3 rfl rfl jv_rr ?_
    refine tr_getR (c := 4) hT (List.mem_of_getElem? (i := 3) rfl) fl_X8_23_23 dX8_isWall_4 ?_
    refine jr_iconst dX8_isWall_7 ic_1 ?_
    obtain ⟨g2, hf⟩ := so_gdE hf
    refine tr_iaload hT (show tm_k 4 = 50 from rfl) rfl (so_inE g2) dX8_isWall_8 ?_
    refine jr_icmp_ge (tgt := 68) dX8_isWall_9 rfl (fun c3 => ?_) (fun c3 => ?_)
    · have hf := so_t c3 hf
      refine jr_iconst dX8_isWall_68 ic_0 ?_
      obtain rfl := so_e1 hf
      exact jr_iret rfl rfl dX8_isWall_69
    · have hf := so_f c3 hf
      refine jr_aload_n dX8_isWall_12 rfl rfl jv_rr ?_
      refine tr_getR (c := 22) hT (List.mem_of_getElem? (i := 9) rfl) fl_X8_43_23 dX8_isWall_13 ?_
      refine jr_iload_n dX8_isWall_16 rfl rfl ?_
      obtain ⟨g4, hf⟩ := so_gdE hf
      refine tr_aaload (g' := 23) hT (show tm_k 22 = 56 from rfl) rfl rfl (so_inE g4) dX8_isWall_17 ?_
      refine jr_iconst dX8_isWall_18 ic_0 ?_
      obtain ⟨g5, hf⟩ := so_gdE hf
      refine tr_iaload hT (tm_rk_22 (so_inE g4)) (tm_rl_22 (so_inE g4)) (so_inE g5) dX8_isWall_19 ?_
      refine jr_iload_n dX8_isWall_20 rfl rfl ?_
      refine so_jE hf (fun J => ∀ (u0 : Unit), J u0 = some res → jg_ (tm_j S0 sg, tm_j S0 sg, .inl (some (.int res))) kX8_isWall 36 [(0, .ref (tm_a 0)), (1, .int f1), (2, .int f2), (3, .int v1)] [] (tm_j S0 sg)) (fun _u hf => ?_) (fun J6 hJ6 hf => ?_)
      · refine jr_aload_n dX8_isWall_36 rfl rfl jv_rr ?_
        refine tr_getR (c := 22) hT (List.mem_of_getElem? (i := 9) rfl) fl_X8_43_23 dX8_isWall_37 ?_
        refine jr_iload_n dX8_isWall_40 rfl rfl ?_
        obtain ⟨g7, hf⟩ := so_gdE hf
        refine tr_aaload (g' := 23) hT (show tm_k 22 = 56 from rfl) rfl rfl (so_inE g7) dX8_isWall_41 ?_
        refine jr_iconst dX8_isWall_42 ic_0 ?_
        obtain ⟨g8, hf⟩ := so_gdE hf
        refine tr_iaload hT (tm_rk_22 (so_inE g7)) (tm_rl_22 (so_inE g7)) (so_inE g8) dX8_isWall_43 ?_
        refine jr_iload_n dX8_isWall_44 rfl rfl ?_
        refine so_jE hf (fun J => ∀ (u0 : Unit), J u0 = some res → jg_ (tm_j S0 sg, tm_j S0 sg, .inl (some (.int res))) kX8_isWall 62 [(0, .ref (tm_a 0)), (1, .int f1), (2, .int f2), (3, .int v1)] [] (tm_j S0 sg)) (fun _u hf => ?_) (fun J9 hJ9 hf => ?_)
        · refine jr_iinc (v := v1 + (1 : Int32)) (lv' := [(0, .ref (tm_a 0)), (1, .int f1), (2, .int f2), (3, .int (v1 + (1 : Int32)))]) dX8_isWall_62 rfl rfl (so_le rfl) rfl ?_
          refine jr_goto (tgt := 2) dX8_isWall_65 rfl ?_
          exact ih (v1 + (1 : Int32)) hf
        · refine jr_icmp_ne (tgt := 62) dX8_isWall_45 rfl (fun c10 => ?_) (fun c10 => ?_)
          · have hf := so_f c10 hf
            exact hJ9 () hf
          · have hf := so_t c10 hf
            refine jr_aload_n dX8_isWall_48 rfl rfl jv_rr ?_
            refine tr_getR (c := 22) hT (List.mem_of_getElem? (i := 9) rfl) fl_X8_43_23 dX8_isWall_49 ?_
            refine jr_iload_n dX8_isWall_52 rfl rfl ?_
            obtain ⟨g11, hf⟩ := so_gdE hf
            refine tr_aaload (g' := 23) hT (show tm_k 22 = 56 from rfl) rfl rfl (so_inE g11) dX8_isWall_53 ?_
            refine jr_iconst dX8_isWall_54 ic_1 ?_
            obtain ⟨g12, hf⟩ := so_gdE hf
            refine tr_iaload hT (tm_rk_22 (so_inE g11)) (tm_rl_22 (so_inE g11)) (so_inE g12) dX8_isWall_55 ?_
            refine jr_iload_n dX8_isWall_56 rfl rfl ?_
            refine jr_icmp_ne (tgt := 62) dX8_isWall_57 rfl (fun c13 => ?_) (fun c13 => ?_)
            · have hf := so_f c13 hf
              exact hJ9 () hf
            · have hf := so_t c13 hf
              refine jr_iconst dX8_isWall_60 ic_1 ?_
              obtain rfl := so_e1 hf
              exact jr_iret rfl rfl dX8_isWall_61
      · refine jr_icmp_ne (tgt := 36) dX8_isWall_21 rfl (fun c14 => ?_) (fun c14 => ?_)
        · have hf := so_f c14 hf
          exact hJ6 () hf
        · have hf := so_t c14 hf
          refine jr_aload_n dX8_isWall_24 rfl rfl jv_rr ?_
          refine tr_getR (c := 22) hT (List.mem_of_getElem? (i := 9) rfl) fl_X8_43_23 dX8_isWall_25 ?_
          refine jr_iload_n dX8_isWall_28 rfl rfl ?_
          obtain ⟨g15, hf⟩ := so_gdE hf
          refine tr_aaload (g' := 23) hT (show tm_k 22 = 56 from rfl) rfl rfl (so_inE g15) dX8_isWall_29 ?_
          refine jr_iconst dX8_isWall_30 ic_1 ?_
          obtain ⟨g16, hf⟩ := so_gdE hf
          refine tr_iaload hT (tm_rk_22 (so_inE g15)) (tm_rl_22 (so_inE g15)) (so_inE g16) dX8_isWall_31 ?_
          refine jr_iload_n dX8_isWall_32 rfl rfl ?_
          refine jr_icmp_eq (tgt := 60) dX8_isWall_33 rfl (fun c17 => ?_) (fun c17 => ?_)
          · have hf := so_t c17 hf
            refine jr_iconst dX8_isWall_60 ic_1 ?_
            obtain rfl := so_e1 hf
            exact jr_iret rfl rfl dX8_isWall_61
          · have hf := so_f c17 hf
            exact hJ6 () hf
def fX8_isWall (a1 : Int32) (a2 : Int32) (sg : tm_S) : Option Int32 :=
  LX8_isWall_2 a1 a2 sg so_N (0 : Int32)
set_option maxHeartbeats 4000000 in
set_option maxRecDepth 100000 in
theorem wX8_isWall {res : Int32} {S0 : so_St}  (a1 : Int32) (a2 : Int32) (hT : tm_Sh S0) (sg : tm_S)  (hf : fX8_isWall a1 a2 sg = some res) : jx_Sp 0 yX8_isWall (ws_ yX8_isWall cX8_isWall 4 (Option.some Jvm.ClassFile.FieldType.boolean)) [.ref (tm_a 0), .int a1, .int a2] (tm_j S0 sg) (.inl (some (.int res))) (tm_j S0 sg) := by
  refine jx_of (plainFor_of_name (by decide)) (so_le rfl) ?_
  show jg_ ((tm_j S0 sg), (tm_j S0 sg), .inl (some (.int res))) kX8_isWall 0 [(0, .ref (tm_a 0)), (1, .int a1), (2, .int a2)] [] (tm_j S0 sg)
  unfold fX8_isWall at hf
  refine jr_iconst dX8_isWall_0 ic_0 ?_
  refine jr_istore_n (lv' := [(0, .ref (tm_a 0)), (1, .int a1), (2, .int a2), (3, .int (0 : Int32))]) dX8_isWall_1 rfl (so_le rfl) rfl ?_
  refine wX8_isWall_2 a1 a2 hT sg so_N (0 : Int32) hf

/- X8_isBeside -/
abbrev kX8_isBeside : jx_K := (cX8_isBeside, 4, RX8, 1, (Option.some Jvm.ClassFile.FieldType.boolean), "isBeside", [])
def fX8_isBeside (a1 : Nat) (a2 : Int32) (a3 : Int32) (sg : tm_S) : Option Int32 :=
  if a2 = a3 then
  (some (0 : Int32))
  else
  (so_gd (so_in ((80 : Int32) + a2) (tm_len a1)) fun _ =>
  if (sg a1 ((80 : Int32) + a2).toNatClampNeg) = (-1 : Int32) then
  (some (0 : Int32))
  else
  (so_gd (so_in ((80 : Int32) + a3) (tm_len a1)) fun _ =>
  if (sg a1 ((80 : Int32) + a3).toNatClampNeg) = (-1 : Int32) then
  (some (0 : Int32))
  else
  (so_gd (so_in ((80 : Int32) + a2) (tm_len a1)) fun _ =>
  so_gd (so_in ((80 : Int32) + a3) (tm_len a1)) fun _ =>
  (fX8_isWall (sg a1 ((80 : Int32) + a2).toNatClampNeg) (sg a1 ((80 : Int32) + a3).toNatClampNeg) sg).bind fun r9 =>
  if r9 = (0 : Int32) then
  (some (0 : Int32))
  else
  (some (1 : Int32)))))
set_option maxHeartbeats 4000000 in
set_option maxRecDepth 100000 in
theorem wX8_isBeside {res : Int32} {S0 : so_St}  (a1 : Nat) (a2 : Int32) (a3 : Int32) (hT : tm_Sh S0) (sg : tm_S) (k_a1 : tm_k a1 = 50) (hf : fX8_isBeside a1 a2 a3 sg = some res) : jx_Sp 1 yX8_isBeside (ws_ yX8_isBeside cX8_isBeside 4 (Option.some Jvm.ClassFile.FieldType.boolean)) [.ref (tm_a 0), .ref (tm_a a1), .int a2, .int a3] (tm_j S0 sg) (.inl (some (.int res))) (tm_j S0 sg) := by
  refine jx_of (plainFor_of_name (by decide)) (so_le rfl) ?_
  show jg_ ((tm_j S0 sg), (tm_j S0 sg), .inl (some (.int res))) kX8_isBeside 0 [(0, .ref (tm_a 0)), (1, .ref (tm_a a1)), (2, .int a2), (3, .int a3)] [] (tm_j S0 sg)
  unfold fX8_isBeside at hf
  refine jr_iload_n dX8_isBeside_0 rfl rfl ?_
  refine jr_iload_n dX8_isBeside_1 rfl rfl ?_
  refine jr_icmp_eq (tgt := 48) dX8_isBeside_2 rfl (fun c1 => ?_) (fun c1 => ?_)
  · have hf := so_t c1 hf
    refine jr_iconst dX8_isBeside_48 ic_0 ?_
    obtain rfl := so_e1 hf
    exact jr_iret rfl rfl dX8_isBeside_49
  · have hf := so_f c1 hf
    refine jr_aload_n dX8_isBeside_5 rfl rfl jv_rr ?_
    refine jr_bipush dX8_isBeside_6 bp_80 ?_
    refine jr_iload_n dX8_isBeside_8 rfl rfl ?_
    refine jr_iadd dX8_isBeside_9 ?_
    obtain ⟨g2, hf⟩ := so_gdE hf
    refine tr_iaload hT k_a1 rfl (so_inE g2) dX8_isBeside_10 ?_
    refine jr_iconst dX8_isBeside_11 ic_m1 ?_
    refine jr_icmp_eq (tgt := 48) dX8_isBeside_12 rfl (fun c3 => ?_) (fun c3 => ?_)
    · have hf := so_t c3 hf
      refine jr_iconst dX8_isBeside_48 ic_0 ?_
      obtain rfl := so_e1 hf
      exact jr_iret rfl rfl dX8_isBeside_49
    · have hf := so_f c3 hf
      refine jr_aload_n dX8_isBeside_15 rfl rfl jv_rr ?_
      refine jr_bipush dX8_isBeside_16 bp_80 ?_
      refine jr_iload_n dX8_isBeside_18 rfl rfl ?_
      refine jr_iadd dX8_isBeside_19 ?_
      obtain ⟨g4, hf⟩ := so_gdE hf
      refine tr_iaload hT k_a1 rfl (so_inE g4) dX8_isBeside_20 ?_
      refine jr_iconst dX8_isBeside_21 ic_m1 ?_
      refine jr_icmp_eq (tgt := 48) dX8_isBeside_22 rfl (fun c5 => ?_) (fun c5 => ?_)
      · have hf := so_t c5 hf
        refine jr_iconst dX8_isBeside_48 ic_0 ?_
        obtain rfl := so_e1 hf
        exact jr_iret rfl rfl dX8_isBeside_49
      · have hf := so_f c5 hf
        refine jr_aload_n dX8_isBeside_25 rfl rfl jv_rr ?_
        refine jr_aload_n dX8_isBeside_26 rfl rfl jv_rr ?_
        refine jr_bipush dX8_isBeside_27 bp_80 ?_
        refine jr_iload_n dX8_isBeside_29 rfl rfl ?_
        refine jr_iadd dX8_isBeside_30 ?_
        obtain ⟨g6, hf⟩ := so_gdE hf
        refine tr_iaload hT k_a1 rfl (so_inE g6) dX8_isBeside_31 ?_
        refine jr_aload_n dX8_isBeside_32 rfl rfl jv_rr ?_
        refine jr_bipush dX8_isBeside_33 bp_80 ?_
        refine jr_iload_n dX8_isBeside_35 rfl rfl ?_
        refine jr_iadd dX8_isBeside_36 ?_
        obtain ⟨g7, hf⟩ := so_gdE hf
        refine tr_iaload hT k_a1 rfl (so_inE g7) dX8_isBeside_37 ?_
        obtain ⟨r9, h8, hf⟩ := so_b hf
        refine jr_callM (st := []) lk_X8_268_23 (wX8_isWall (sg a1 ((80 : Int32) + a2).toNatClampNeg) (sg a1 ((80 : Int32) + a3).toNatClampNeg) hT sg h8) tm_k23 rfl rfl rfl (so_le rfl) (so_le rfl) dX8_isBeside_38 ?_
        refine jr_if_eq (tgt := 48) dX8_isBeside_41 rfl (fun c10 => ?_) (fun c10 => ?_)
        · have hf := so_t c10 hf
          refine jr_iconst dX8_isBeside_48 ic_0 ?_
          obtain rfl := so_e1 hf
          exact jr_iret rfl rfl dX8_isBeside_49
        · have hf := so_f c10 hf
          refine jr_iconst dX8_isBeside_44 ic_1 ?_
          refine jr_goto (tgt := 49) dX8_isBeside_45 rfl ?_
          obtain rfl := so_e1 hf
          exact jr_iret rfl rfl dX8_isBeside_49

/- X8_less -/
abbrev kX8_less : jx_K := (cX8_less, 2, RX8, 0, (Option.some Jvm.ClassFile.FieldType.int), "less", [])
def fX8_less (a0 : Int32) (a1 : Int32) : Int32 :=
  if a1 ≤ a0 then
  (a1)
  else
  (a0)
set_option maxHeartbeats 4000000 in
set_option maxRecDepth 100000 in
theorem wX8_less {res : Int32} {S0 : so_St}  (a0 : Int32) (a1 : Int32) (hT : tm_Sh S0) (sg : tm_S)  (hf : fX8_less a0 a1 = res) : jx_Sp 0 yX8_less (ws_ yX8_less cX8_less 2 (Option.some Jvm.ClassFile.FieldType.int)) [.int a0, .int a1] (tm_j S0 sg) (.inl (some (.int res))) (tm_j S0 sg) := by
  refine jx_of (plainFor_of_name (by decide)) (so_le rfl) ?_
  show jg_ ((tm_j S0 sg), (tm_j S0 sg), .inl (some (.int res))) kX8_less 0 [(0, .int a0), (1, .int a1)] [] (tm_j S0 sg)
  unfold fX8_less at hf
  refine jr_iload_n dX8_less_0 rfl rfl ?_
  refine jr_iload_n dX8_less_1 rfl rfl ?_
  refine jr_icmp_ge (tgt := 9) dX8_less_2 rfl (fun c1 => ?_) (fun c1 => ?_)
  · have hf := so_t c1 hf
    refine jr_iload_n dX8_less_9 rfl rfl ?_
    obtain rfl := hf
    exact jr_iret rfl rfl dX8_less_10
  · have hf := so_f c1 hf
    refine jr_iload_n dX8_less_5 rfl rfl ?_
    refine jr_goto (tgt := 10) dX8_less_6 rfl ?_
    obtain rfl := hf
    exact jr_iret rfl rfl dX8_less_10

/- X8_more -/
abbrev kX8_more : jx_K := (cX8_more, 2, RX8, 0, (Option.some Jvm.ClassFile.FieldType.int), "more", [])
def fX8_more (a0 : Int32) (a1 : Int32) : Int32 :=
  if a0 ≤ a1 then
  (a1)
  else
  (a0)
set_option maxHeartbeats 4000000 in
set_option maxRecDepth 100000 in
theorem wX8_more {res : Int32} {S0 : so_St}  (a0 : Int32) (a1 : Int32) (hT : tm_Sh S0) (sg : tm_S)  (hf : fX8_more a0 a1 = res) : jx_Sp 0 yX8_more (ws_ yX8_more cX8_more 2 (Option.some Jvm.ClassFile.FieldType.int)) [.int a0, .int a1] (tm_j S0 sg) (.inl (some (.int res))) (tm_j S0 sg) := by
  refine jx_of (plainFor_of_name (by decide)) (so_le rfl) ?_
  show jg_ ((tm_j S0 sg), (tm_j S0 sg), .inl (some (.int res))) kX8_more 0 [(0, .int a0), (1, .int a1)] [] (tm_j S0 sg)
  unfold fX8_more at hf
  refine jr_iload_n dX8_more_0 rfl rfl ?_
  refine jr_iload_n dX8_more_1 rfl rfl ?_
  refine jr_icmp_le (tgt := 9) dX8_more_2 rfl (fun c1 => ?_) (fun c1 => ?_)
  · have hf := so_t c1 hf
    refine jr_iload_n dX8_more_9 rfl rfl ?_
    obtain rfl := hf
    exact jr_iret rfl rfl dX8_more_10
  · have hf := so_f c1 hf
    refine jr_iload_n dX8_more_5 rfl rfl ?_
    refine jr_goto (tgt := 10) dX8_more_6 rfl ?_
    obtain rfl := hf
    exact jr_iret rfl rfl dX8_more_10

/- X8_by -/
abbrev kX8_by : jx_K := (cX8_by, 3, RX8, 1, (Option.some Jvm.ClassFile.FieldType.int), "by", [])
def fX8_by (a0 : Int32) (a1 : Int32) (a2 : Int32) (sg : tm_S) : Option Int32 :=
  if a0 = (2 : Int32) then
  (some (a1 + a2))
  else
  if a0 = (3 : Int32) then
  (some (a1 - a2))
  else
  if a0 = (4 : Int32) then
  (some (a1 * a2))
  else
  if a0 = (5 : Int32) then
  (if a2 = (0 : Int32) then
  (some (0 : Int32))
  else
  (if a2 = (-1 : Int32) then
  (some (-a1))
  else
  (so_gd (so_ne0 a2) fun _ =>
  some (a1 / a2))))
  else
  if a0 = (6 : Int32) then
  (if a2 = (0 : Int32) then
  (some (0 : Int32))
  else
  (if a2 = (-1 : Int32) then
  (some (0 : Int32))
  else
  (so_gd (so_ne0 a2) fun _ =>
  some (a1 - a1 / a2 * a2))))
  else
  if a0 = (7 : Int32) then
  (some (fX8_less a1 a2))
  else
  (some (fX8_more a1 a2))
set_option maxHeartbeats 4000000 in
set_option maxRecDepth 100000 in
theorem wX8_by {res : Int32} {S0 : so_St}  (a0 : Int32) (a1 : Int32) (a2 : Int32) (hT : tm_Sh S0) (sg : tm_S)  (hf : fX8_by a0 a1 a2 sg = some res) : jx_Sp 1 yX8_by (ws_ yX8_by cX8_by 3 (Option.some Jvm.ClassFile.FieldType.int)) [.int a0, .int a1, .int a2] (tm_j S0 sg) (.inl (some (.int res))) (tm_j S0 sg) := by
  refine jx_of (plainFor_of_name (by decide)) (so_le rfl) ?_
  show jg_ ((tm_j S0 sg), (tm_j S0 sg), .inl (some (.int res))) kX8_by 0 [(0, .int a0), (1, .int a1), (2, .int a2)] [] (tm_j S0 sg)
  unfold fX8_by at hf
  refine jr_iload_n dX8_by_0 rfl rfl ?_
  by_cases c1 : a0 = (2 : Int32)
  · have hf := so_t c1 hf
    refine jr_tsIn (tgt := 40) (2 : Int32) c1 dX8_by_1 (by decide) (by decide) rfl rfl ?_
    refine jr_iload_n dX8_by_40 rfl rfl ?_
    refine jr_iload_n dX8_by_41 rfl rfl ?_
    refine jr_iadd dX8_by_42 ?_
    obtain rfl := so_e1 hf
    exact jr_iret rfl rfl dX8_by_43
  · have hf := so_f c1 hf
    by_cases c2 : a0 = (3 : Int32)
    · have hf := so_t c2 hf
      refine jr_tsIn (tgt := 44) (3 : Int32) c2 dX8_by_1 (by decide) (by decide) rfl rfl ?_
      refine jr_iload_n dX8_by_44 rfl rfl ?_
      refine jr_iload_n dX8_by_45 rfl rfl ?_
      refine jr_isub dX8_by_46 ?_
      obtain rfl := so_e1 hf
      exact jr_iret rfl rfl dX8_by_47
    · have hf := so_f c2 hf
      by_cases c3 : a0 = (4 : Int32)
      · have hf := so_t c3 hf
        refine jr_tsIn (tgt := 48) (4 : Int32) c3 dX8_by_1 (by decide) (by decide) rfl rfl ?_
        refine jr_iload_n dX8_by_48 rfl rfl ?_
        refine jr_iload_n dX8_by_49 rfl rfl ?_
        refine jr_imul dX8_by_50 ?_
        obtain rfl := so_e1 hf
        exact jr_iret rfl rfl dX8_by_51
      · have hf := so_f c3 hf
        by_cases c4 : a0 = (5 : Int32)
        · have hf := so_t c4 hf
          refine jr_tsIn (tgt := 52) (5 : Int32) c4 dX8_by_1 (by decide) (by decide) rfl rfl ?_
          refine jr_iload_n dX8_by_52 rfl rfl ?_
          refine jr_if_ne (tgt := 60) dX8_by_53 rfl (fun c5 => ?_) (fun c5 => ?_)
          · have hf := so_f c5 hf
            refine jr_iload_n dX8_by_60 rfl rfl ?_
            refine jr_iconst dX8_by_61 ic_m1 ?_
            refine jr_icmp_ne (tgt := 70) dX8_by_62 rfl (fun c6 => ?_) (fun c6 => ?_)
            · have hf := so_f c6 hf
              refine jr_iload_n dX8_by_70 rfl rfl ?_
              refine jr_iload_n dX8_by_71 rfl rfl ?_
              obtain ⟨g7, hf⟩ := so_gdE hf
              refine jr_idiv dX8_by_72 (so_ne0E g7) ?_
              obtain rfl := so_e1 hf
              exact jr_iret rfl rfl dX8_by_73
            · have hf := so_t c6 hf
              refine jr_iload_n dX8_by_65 rfl rfl ?_
              refine jr_ineg dX8_by_66 ?_
              refine jr_goto (tgt := 73) dX8_by_67 rfl ?_
              obtain rfl := so_e1 hf
              exact jr_iret rfl rfl dX8_by_73
          · have hf := so_t c5 hf
            refine jr_iconst dX8_by_56 ic_0 ?_
            refine jr_goto (tgt := 73) dX8_by_57 rfl ?_
            obtain rfl := so_e1 hf
            exact jr_iret rfl rfl dX8_by_73
        · have hf := so_f c4 hf
          by_cases c8 : a0 = (6 : Int32)
          · have hf := so_t c8 hf
            refine jr_tsIn (tgt := 74) (6 : Int32) c8 dX8_by_1 (by decide) (by decide) rfl rfl ?_
            refine jr_iload_n dX8_by_74 rfl rfl ?_
            refine jr_if_eq (tgt := 83) dX8_by_75 rfl (fun c9 => ?_) (fun c9 => ?_)
            · have hf := so_t c9 hf
              refine jr_iconst dX8_by_83 ic_0 ?_
              refine jr_goto (tgt := 90) dX8_by_84 rfl ?_
              obtain rfl := so_e1 hf
              exact jr_iret rfl rfl dX8_by_90
            · have hf := so_f c9 hf
              refine jr_iload_n dX8_by_78 rfl rfl ?_
              refine jr_iconst dX8_by_79 ic_m1 ?_
              refine jr_icmp_ne (tgt := 87) dX8_by_80 rfl (fun c10 => ?_) (fun c10 => ?_)
              · have hf := so_f c10 hf
                refine jr_iload_n dX8_by_87 rfl rfl ?_
                refine jr_iload_n dX8_by_88 rfl rfl ?_
                obtain ⟨g11, hf⟩ := so_gdE hf
                refine jr_irem dX8_by_89 (so_ne0E g11) ?_
                obtain rfl := so_e1 hf
                exact jr_iret rfl rfl dX8_by_90
              · have hf := so_t c10 hf
                refine jr_iconst dX8_by_83 ic_0 ?_
                refine jr_goto (tgt := 90) dX8_by_84 rfl ?_
                obtain rfl := so_e1 hf
                exact jr_iret rfl rfl dX8_by_90
          · have hf := so_f c8 hf
            by_cases c12 : a0 = (7 : Int32)
            · have hf := so_t c12 hf
              refine jr_tsIn (tgt := 91) (7 : Int32) c12 dX8_by_1 (by decide) (by decide) rfl rfl ?_
              refine jr_iload_n dX8_by_91 rfl rfl ?_
              refine jr_iload_n dX8_by_92 rfl rfl ?_
              refine jr_call (st := []) lk_X8_249 (wX8_less a1 a2 hT sg rfl) jk_r0 rfl rfl (so_le rfl) (so_le rfl) dX8_by_93 ?_
              obtain rfl := so_e1 hf
              exact jr_iret rfl rfl dX8_by_96
            · have hf := so_f c12 hf
              refine jr_tsOut (tgt := 97) [(2 : Int32), (3 : Int32), (4 : Int32), (5 : Int32), (6 : Int32), (7 : Int32)] (by decide) (List.forall_mem_cons.mpr ⟨c1, List.forall_mem_cons.mpr ⟨c2, List.forall_mem_cons.mpr ⟨c3, List.forall_mem_cons.mpr ⟨c4, List.forall_mem_cons.mpr ⟨c8, List.forall_mem_cons.mpr ⟨c12, fun _ h => by cases h⟩⟩⟩⟩⟩⟩) dX8_by_1 rfl ?_
              refine jr_iload_n dX8_by_97 rfl rfl ?_
              refine jr_iload_n dX8_by_98 rfl rfl ?_
              refine jr_call (st := []) lk_X8_252 (wX8_more a1 a2 hT sg rfl) jk_r0 rfl rfl (so_le rfl) (so_le rfl) dX8_by_99 ?_
              obtain rfl := so_e1 hf
              exact jr_iret rfl rfl dX8_by_102

/- X8_byLaw -/
abbrev kX8_byLaw : jx_K := (cX8_byLaw, 3, RX8, 2, (Option.some Jvm.ClassFile.FieldType.int), "byLaw", [])
def LX8_byLaw_23  (k132 : tm_S → Option (Int32 × tm_S)) : Nat → Int32 → Int32 → tm_S → Option (Int32 × tm_S)
  | 0, _, _, _ => none
  | n + 1, v5, v6, S7 =>
    if (S7 0 21) ≤ v6 then
    (k132 S7)
    else
    (so_gd (so_in v6 160) fun _ =>
    so_gd (so_in (0 : Int32) 2) fun _ =>
    so_j (κ := Int32 → tm_S → Option (Int32 × tm_S)) (ρ := Option (Int32 × tm_S)) (fun (v11 : Int32) (S12 : tm_S) =>
    LX8_byLaw_23 k132 n v11 (v6 + (1 : Int32)) S12)
    (fun J13 =>
    if (2 : Int32) ≤ (S7 (50 + v6.toNatClampNeg) (0 : Int32).toNatClampNeg) then
    (so_gd (so_in v6 160) fun _ =>
    so_gd (so_in (0 : Int32) 2) fun _ =>
    so_gd (so_in ((v5 + (-1 : Int32)) - (1 : Int32)) 160) fun _ =>
    so_gd (so_in (v5 + (-1 : Int32)) 160) fun _ =>
    (fX8_by (S7 (50 + v6.toNatClampNeg) (0 : Int32).toNatClampNeg) (S7 385 ((v5 + (-1 : Int32)) - (1 : Int32)).toNatClampNeg) (S7 385 (v5 + (-1 : Int32)).toNatClampNeg) S7).bind fun r20 =>
    so_gd (so_in ((v5 + (-1 : Int32)) - (1 : Int32)) 160) fun _ =>
    tm_let (tm_up S7 385 ((v5 + (-1 : Int32)) - (1 : Int32)).toNatClampNeg r20) fun S22 =>
    J13 (v5 + (-1 : Int32)) S22)
    else
    (so_gd (so_in v6 160) fun _ =>
    so_gd (so_in (0 : Int32) 2) fun _ =>
    so_j (κ := Int32 → Option (Int32 × tm_S)) (ρ := Option (Int32 × tm_S)) (fun (v25 : Int32) =>
    so_gd (so_in v5 160) fun _ =>
    tm_let (tm_up S7 385 v5.toNatClampNeg v25) fun S28 =>
    J13 (v5 + (1 : Int32)) S28)
    (fun J26 =>
    if (S7 (50 + v6.toNatClampNeg) (0 : Int32).toNatClampNeg) = (0 : Int32) then
    (so_gd (so_in v6 160) fun _ =>
    so_gd (so_in (1 : Int32) 2) fun _ =>
    J26 (S7 (50 + v6.toNatClampNeg) (1 : Int32).toNatClampNeg))
    else
    (so_gd (so_in v6 160) fun _ =>
    so_gd (so_in (1 : Int32) 2) fun _ =>
    so_gd (so_in (S7 (50 + v6.toNatClampNeg) (1 : Int32).toNatClampNeg) 8) fun _ =>
    J26 (S7 386 (S7 (50 + v6.toNatClampNeg) (1 : Int32).toNatClampNeg).toNatClampNeg))))))
set_option maxHeartbeats 4000000 in
set_option maxRecDepth 100000 in
theorem wX8_byLaw_23 {res : Int32} {sg' : tm_S} {S0 : so_St} {sg0 : tm_S}    (hT : tm_Sh S0)   (k132 : tm_S → Option (Int32 × tm_S)) (h132 : ∀ (S35 : tm_S), k132 S35 = some (res, sg') → jg_ (tm_j S0 sg0, tm_j S0 sg', .inl (some (.int res))) kX8_byLaw 132 [(0, .ref (tm_a 0))] [] (tm_j S0 S35)) : ∀ (n : Nat) (v5 : Int32) (v6 : Int32) (S7 : tm_S), LX8_byLaw_23 k132 n v5 v6 S7 = some (res, sg') → jg_ (tm_j S0 sg0, tm_j S0 sg', .inl (some (.int res))) kX8_byLaw 23 [(0, .ref (tm_a 0)), (1, .int v5), (2, .int v6)] [] (tm_j S0 S7) := by
  intro n
  induction n with
  | zero =>
    intro v5 v6 S7 hf
    exact so_no hf
  | succ n ih =>
    intro v5 v6 S7 hf
    rw [LX8_byLaw_23] at hf
    refine jr_iload_n dX8_byLaw_23 rfl rfl ?_
    refine jr_aload_n dX8_byLaw_24 rfl rfl jv_rr ?_
    refine tr_getI fl_X8_206_23 dX8_byLaw_25 ?_
    refine jr_icmp_ge (tgt := 132) dX8_byLaw_28 rfl (fun c8 => ?_) (fun c8 => ?_)
    · have hf := so_t c8 hf
      refine jr_sub [0] rfl ?_
      exact h132 S7 hf
    · have hf := so_f c8 hf
      refine jr_aload_n dX8_byLaw_31 rfl rfl jv_rr ?_
      refine tr_getR (c := 49) hT (List.mem_of_getElem? (i := 12) rfl) fl_X8_52_23 dX8_byLaw_32 ?_
      refine jr_iload_n dX8_byLaw_35 rfl rfl ?_
      obtain ⟨g9, hf⟩ := so_gdE hf
      refine tr_aaload (g' := 50) hT (show tm_k 49 = 56 from rfl) rfl rfl (so_inE g9) dX8_byLaw_36 ?_
      refine jr_iconst dX8_byLaw_37 ic_0 ?_
      obtain ⟨g10, hf⟩ := so_gdE hf
      refine tr_iaload hT (tm_rk_49 (so_inE g9)) (tm_rl_49 (so_inE g9)) (so_inE g10) dX8_byLaw_38 ?_
      refine jr_iconst dX8_byLaw_39 ic_2 ?_
      refine so_jE hf (fun J => ∀ (v11 : Int32) (S12 : tm_S), J v11 S12 = some (res, sg') → jg_ (tm_j S0 sg0, tm_j S0 sg', .inl (some (.int res))) kX8_byLaw 126 [(0, .ref (tm_a 0)), (1, .int v11), (2, .int v6)] [] (tm_j S0 S12)) (fun v11 S12 hf => ?_) (fun J13 hJ13 hf => ?_)
      · refine jr_iinc (v := v6 + (1 : Int32)) (lv' := [(0, .ref (tm_a 0)), (1, .int v11), (2, .int (v6 + (1 : Int32)))]) dX8_byLaw_126 rfl rfl (so_le rfl) rfl ?_
        refine jr_goto (tgt := 23) dX8_byLaw_129 rfl ?_
        exact ih v11 (v6 + (1 : Int32)) S12 hf
      · refine jr_icmp_ge (tgt := 90) dX8_byLaw_40 rfl (fun c14 => ?_) (fun c14 => ?_)
        · have hf := so_t c14 hf
          refine jr_iinc (v := v5 + (-1 : Int32)) (lv' := [(0, .ref (tm_a 0)), (1, .int (v5 + (-1 : Int32))), (2, .int v6)]) dX8_byLaw_90 rfl rfl (so_le rfl) rfl ?_
          refine jr_aload_n dX8_byLaw_93 rfl rfl jv_rr ?_
          refine tr_getR (c := 385) hT (List.mem_of_getElem? (i := 16) rfl) fl_X8_64_23 dX8_byLaw_94 ?_
          refine jr_iload_n dX8_byLaw_97 rfl rfl ?_
          refine jr_iconst dX8_byLaw_98 ic_1 ?_
          refine jr_isub dX8_byLaw_99 ?_
          refine jr_aload_n dX8_byLaw_100 rfl rfl jv_rr ?_
          refine tr_getR (c := 49) hT (List.mem_of_getElem? (i := 12) rfl) fl_X8_52_23 dX8_byLaw_101 ?_
          refine jr_iload_n dX8_byLaw_104 rfl rfl ?_
          obtain ⟨g15, hf⟩ := so_gdE hf
          refine tr_aaload (g' := 50) hT (show tm_k 49 = 56 from rfl) rfl rfl (so_inE g15) dX8_byLaw_105 ?_
          refine jr_iconst dX8_byLaw_106 ic_0 ?_
          obtain ⟨g16, hf⟩ := so_gdE hf
          refine tr_iaload hT (tm_rk_49 (so_inE g15)) (tm_rl_49 (so_inE g15)) (so_inE g16) dX8_byLaw_107 ?_
          refine jr_aload_n dX8_byLaw_108 rfl rfl jv_rr ?_
          refine tr_getR (c := 385) hT (List.mem_of_getElem? (i := 16) rfl) fl_X8_64_23 dX8_byLaw_109 ?_
          refine jr_iload_n dX8_byLaw_112 rfl rfl ?_
          refine jr_iconst dX8_byLaw_113 ic_1 ?_
          refine jr_isub dX8_byLaw_114 ?_
          obtain ⟨g17, hf⟩ := so_gdE hf
          refine tr_iaload hT (show tm_k 385 = 50 from rfl) rfl (so_inE g17) dX8_byLaw_115 ?_
          refine jr_aload_n dX8_byLaw_116 rfl rfl jv_rr ?_
          refine tr_getR (c := 385) hT (List.mem_of_getElem? (i := 16) rfl) fl_X8_64_23 dX8_byLaw_117 ?_
          refine jr_iload_n dX8_byLaw_120 rfl rfl ?_
          obtain ⟨g18, hf⟩ := so_gdE hf
          refine tr_iaload hT (show tm_k 385 = 50 from rfl) rfl (so_inE g18) dX8_byLaw_121 ?_
          obtain ⟨r20, h19, hf⟩ := so_b hf
          refine jr_call (st := [.int ((v5 + (-1 : Int32)) - (1 : Int32)), .ref (tm_a 385)]) lk_X8_255 (wX8_by (S7 (50 + v6.toNatClampNeg) (0 : Int32).toNatClampNeg) (S7 385 ((v5 + (-1 : Int32)) - (1 : Int32)).toNatClampNeg) (S7 385 (v5 + (-1 : Int32)).toNatClampNeg) hT S7 h19) jk_r0 rfl rfl (so_le rfl) (so_le rfl) dX8_byLaw_122 ?_
          obtain ⟨g21, hf⟩ := so_gdE hf
          refine tr_iastore hT (show tm_k 385 = 50 from rfl) rfl (so_inE g21) dX8_byLaw_125 ?_
          refine tm_let_e hf (fun S22 hf => ?_)
          exact hJ13 (v5 + (-1 : Int32)) S22 hf
        · have hf := so_f c14 hf
          refine jr_aload_n dX8_byLaw_43 rfl rfl jv_rr ?_
          refine tr_getR (c := 385) hT (List.mem_of_getElem? (i := 16) rfl) fl_X8_64_23 dX8_byLaw_44 ?_
          refine jr_iload_n dX8_byLaw_47 rfl rfl ?_
          refine jr_aload_n dX8_byLaw_48 rfl rfl jv_rr ?_
          refine tr_getR (c := 49) hT (List.mem_of_getElem? (i := 12) rfl) fl_X8_52_23 dX8_byLaw_49 ?_
          refine jr_iload_n dX8_byLaw_52 rfl rfl ?_
          obtain ⟨g23, hf⟩ := so_gdE hf
          refine tr_aaload (g' := 50) hT (show tm_k 49 = 56 from rfl) rfl rfl (so_inE g23) dX8_byLaw_53 ?_
          refine jr_iconst dX8_byLaw_54 ic_0 ?_
          obtain ⟨g24, hf⟩ := so_gdE hf
          refine tr_iaload hT (tm_rk_49 (so_inE g23)) (tm_rl_49 (so_inE g23)) (so_inE g24) dX8_byLaw_55 ?_
          refine so_jE hf (fun J => ∀ (v25 : Int32), J v25 = some (res, sg') → jg_ (tm_j S0 sg0, tm_j S0 sg', .inl (some (.int res))) kX8_byLaw 83 [(0, .ref (tm_a 0)), (1, .int v5), (2, .int v6)] [.int v25, .int v5, .ref (tm_a 385)] (tm_j S0 S7)) (fun v25 hf => ?_) (fun J26 hJ26 hf => ?_)
          · obtain ⟨g27, hf⟩ := so_gdE hf
            refine tr_iastore hT (show tm_k 385 = 50 from rfl) rfl (so_inE g27) dX8_byLaw_83 ?_
            refine tm_let_e hf (fun S28 hf => ?_)
            refine jr_iinc (v := v5 + (1 : Int32)) (lv' := [(0, .ref (tm_a 0)), (1, .int (v5 + (1 : Int32))), (2, .int v6)]) dX8_byLaw_84 rfl rfl (so_le rfl) rfl ?_
            refine jr_goto (tgt := 126) dX8_byLaw_87 rfl ?_
            exact hJ13 (v5 + (1 : Int32)) S28 hf
          · refine jr_if_ne (tgt := 70) dX8_byLaw_56 rfl (fun c29 => ?_) (fun c29 => ?_)
            · have hf := so_f c29 hf
              refine jr_aload_n dX8_byLaw_70 rfl rfl jv_rr ?_
              refine tr_getR (c := 386) hT (List.mem_of_getElem? (i := 17) rfl) fl_X8_67_23 dX8_byLaw_71 ?_
              refine jr_aload_n dX8_byLaw_74 rfl rfl jv_rr ?_
              refine tr_getR (c := 49) hT (List.mem_of_getElem? (i := 12) rfl) fl_X8_52_23 dX8_byLaw_75 ?_
              refine jr_iload_n dX8_byLaw_78 rfl rfl ?_
              obtain ⟨g30, hf⟩ := so_gdE hf
              refine tr_aaload (g' := 50) hT (show tm_k 49 = 56 from rfl) rfl rfl (so_inE g30) dX8_byLaw_79 ?_
              refine jr_iconst dX8_byLaw_80 ic_1 ?_
              obtain ⟨g31, hf⟩ := so_gdE hf
              refine tr_iaload hT (tm_rk_49 (so_inE g30)) (tm_rl_49 (so_inE g30)) (so_inE g31) dX8_byLaw_81 ?_
              obtain ⟨g32, hf⟩ := so_gdE hf
              refine tr_iaload hT (show tm_k 386 = 50 from rfl) rfl (so_inE g32) dX8_byLaw_82 ?_
              exact hJ26 (S7 386 (S7 (50 + v6.toNatClampNeg) (1 : Int32).toNatClampNeg).toNatClampNeg) hf
            · have hf := so_t c29 hf
              refine jr_aload_n dX8_byLaw_59 rfl rfl jv_rr ?_
              refine tr_getR (c := 49) hT (List.mem_of_getElem? (i := 12) rfl) fl_X8_52_23 dX8_byLaw_60 ?_
              refine jr_iload_n dX8_byLaw_63 rfl rfl ?_
              obtain ⟨g33, hf⟩ := so_gdE hf
              refine tr_aaload (g' := 50) hT (show tm_k 49 = 56 from rfl) rfl rfl (so_inE g33) dX8_byLaw_64 ?_
              refine jr_iconst dX8_byLaw_65 ic_1 ?_
              obtain ⟨g34, hf⟩ := so_gdE hf
              refine tr_iaload hT (tm_rk_49 (so_inE g33)) (tm_rl_49 (so_inE g33)) (so_inE g34) dX8_byLaw_66 ?_
              refine jr_goto (tgt := 83) dX8_byLaw_67 rfl ?_
              exact hJ26 (S7 (50 + v6.toNatClampNeg) (1 : Int32).toNatClampNeg) hf
def fX8_byLaw  (sg : tm_S) : Option (Int32 × tm_S) :=
  so_gd (so_in (0 : Int32) 8) fun _ =>
  so_gd (so_in (1 : Int32) 8) fun _ =>
  so_gd (so_in (0 : Int32) 160) fun _ =>
  tm_let (tm_up sg 385 (0 : Int32).toNatClampNeg ((sg 386 (0 : Int32).toNatClampNeg) - (sg 386 (1 : Int32).toNatClampNeg))) fun S4 =>
  LX8_byLaw_23 (fun (S36 : tm_S) =>
  so_gd (so_in (0 : Int32) 160) fun _ =>
  some ((fX8_less (40 : Int32) (fX8_more (0 : Int32) (S36 385 (0 : Int32).toNatClampNeg))), S36)) so_N (0 : Int32) (0 : Int32) S4
set_option maxHeartbeats 4000000 in
set_option maxRecDepth 100000 in
theorem wX8_byLaw {res : Int32} {sg' : tm_S} {S0 : so_St}   (hT : tm_Sh S0) (sg : tm_S)  (hf : fX8_byLaw sg = some (res, sg')) : jx_Sp 2 yX8_byLaw (ws_ yX8_byLaw cX8_byLaw 3 (Option.some Jvm.ClassFile.FieldType.int)) [.ref (tm_a 0)] (tm_j S0 sg) (.inl (some (.int res))) (tm_j S0 sg') := by
  refine jx_of (plainFor_of_name (by decide)) (so_le rfl) ?_
  show jg_ ((tm_j S0 sg), (tm_j S0 sg'), .inl (some (.int res))) kX8_byLaw 0 [(0, .ref (tm_a 0))] [] (tm_j S0 sg)
  unfold fX8_byLaw at hf
  refine jr_iconst dX8_byLaw_0 ic_0 ?_
  refine jr_istore_n (lv' := [(0, .ref (tm_a 0)), (1, .int (0 : Int32))]) dX8_byLaw_1 rfl (so_le rfl) rfl ?_
  refine jr_aload_n dX8_byLaw_2 rfl rfl jv_rr ?_
  refine tr_getR (c := 385) hT (List.mem_of_getElem? (i := 16) rfl) fl_X8_64_23 dX8_byLaw_3 ?_
  refine jr_iconst dX8_byLaw_6 ic_0 ?_
  refine jr_aload_n dX8_byLaw_7 rfl rfl jv_rr ?_
  refine tr_getR (c := 386) hT (List.mem_of_getElem? (i := 17) rfl) fl_X8_67_23 dX8_byLaw_8 ?_
  refine jr_iconst dX8_byLaw_11 ic_0 ?_
  obtain ⟨g1, hf⟩ := so_gdE hf
  refine tr_iaload hT (show tm_k 386 = 50 from rfl) rfl (so_inE g1) dX8_byLaw_12 ?_
  refine jr_aload_n dX8_byLaw_13 rfl rfl jv_rr ?_
  refine tr_getR (c := 386) hT (List.mem_of_getElem? (i := 17) rfl) fl_X8_67_23 dX8_byLaw_14 ?_
  refine jr_iconst dX8_byLaw_17 ic_1 ?_
  obtain ⟨g2, hf⟩ := so_gdE hf
  refine tr_iaload hT (show tm_k 386 = 50 from rfl) rfl (so_inE g2) dX8_byLaw_18 ?_
  refine jr_isub dX8_byLaw_19 ?_
  obtain ⟨g3, hf⟩ := so_gdE hf
  refine tr_iastore hT (show tm_k 385 = 50 from rfl) rfl (so_inE g3) dX8_byLaw_20 ?_
  refine tm_let_e hf (fun S4 hf => ?_)
  refine jr_iconst dX8_byLaw_21 ic_0 ?_
  refine jr_istore_n (lv' := [(0, .ref (tm_a 0)), (1, .int (0 : Int32)), (2, .int (0 : Int32))]) dX8_byLaw_22 rfl (so_le rfl) rfl ?_
  refine wX8_byLaw_23 hT _ (fun S36 hf => ?_) so_N (0 : Int32) (0 : Int32) S4 hf
  refine jr_bipush dX8_byLaw_132 bp_40 ?_
  refine jr_iconst dX8_byLaw_134 ic_0 ?_
  refine jr_aload_n dX8_byLaw_135 rfl rfl jv_rr ?_
  refine tr_getR (c := 385) hT (List.mem_of_getElem? (i := 16) rfl) fl_X8_64_23 dX8_byLaw_136 ?_
  refine jr_iconst dX8_byLaw_139 ic_0 ?_
  obtain ⟨g37, hf⟩ := so_gdE hf
  refine tr_iaload hT (show tm_k 385 = 50 from rfl) rfl (so_inE g37) dX8_byLaw_140 ?_
  refine jr_call (st := [.int (40 : Int32)]) lk_X8_252 (wX8_more (0 : Int32) (S36 385 (0 : Int32).toNatClampNeg) hT S36 rfl) jk_r0 rfl rfl (so_le rfl) (so_le rfl) dX8_byLaw_141 ?_
  refine jr_call (st := []) lk_X8_249 (wX8_less (40 : Int32) (fX8_more (0 : Int32) (S36 385 (0 : Int32).toNatClampNeg)) hT S36 rfl) jk_r0 rfl rfl (so_le rfl) (so_le rfl) dX8_byLaw_144 ?_
  obtain ⟨rfl, rfl⟩ := so_e2 hf
  exact jr_iret rfl rfl dX8_byLaw_147

/- X8_forceBy -/
abbrev kX8_forceBy : jx_K := (cX8_forceBy, 9, RX8, 3, (Option.some Jvm.ClassFile.FieldType.int), "forceBy", [])
def fX8_forceBy (a1 : Int32) (a2 : Int32) (a3 : Int32) (a4 : Int32) (a5 : Int32) (a6 : Int32) (a7 : Int32) (a8 : Int32) (sg : tm_S) : Option (Int32 × tm_S) :=
  so_gd (so_in (0 : Int32) 8) fun _ =>
  tm_let (tm_up sg 386 (0 : Int32).toNatClampNeg a1) fun S2 =>
  so_gd (so_in (1 : Int32) 8) fun _ =>
  tm_let (tm_up S2 386 (1 : Int32).toNatClampNeg a2) fun S4 =>
  so_gd (so_in (2 : Int32) 8) fun _ =>
  tm_let (tm_up S4 386 (2 : Int32).toNatClampNeg a3) fun S6 =>
  so_gd (so_in (3 : Int32) 8) fun _ =>
  tm_let (tm_up S6 386 (3 : Int32).toNatClampNeg a4) fun S8 =>
  so_gd (so_in (4 : Int32) 8) fun _ =>
  tm_let (tm_up S8 386 (4 : Int32).toNatClampNeg a5) fun S10 =>
  so_gd (so_in (5 : Int32) 8) fun _ =>
  tm_let (tm_up S10 386 (5 : Int32).toNatClampNeg a6) fun S12 =>
  so_gd (so_in (6 : Int32) 8) fun _ =>
  tm_let (tm_up S12 386 (6 : Int32).toNatClampNeg a7) fun S14 =>
  so_gd (so_in (7 : Int32) 8) fun _ =>
  tm_let (tm_up S14 386 (7 : Int32).toNatClampNeg a8) fun S16 =>
  tm_b2 (fX8_byLaw S16) fun r18 S19 =>
  some (r18, S19)
set_option maxHeartbeats 4000000 in
set_option maxRecDepth 100000 in
theorem wX8_forceBy {res : Int32} {sg' : tm_S} {S0 : so_St}  (a1 : Int32) (a2 : Int32) (a3 : Int32) (a4 : Int32) (a5 : Int32) (a6 : Int32) (a7 : Int32) (a8 : Int32) (hT : tm_Sh S0) (sg : tm_S)  (hf : fX8_forceBy a1 a2 a3 a4 a5 a6 a7 a8 sg = some (res, sg')) : jx_Sp 3 yX8_forceBy (ws_ yX8_forceBy cX8_forceBy 9 (Option.some Jvm.ClassFile.FieldType.int)) [.ref (tm_a 0), .int a1, .int a2, .int a3, .int a4, .int a5, .int a6, .int a7, .int a8] (tm_j S0 sg) (.inl (some (.int res))) (tm_j S0 sg') := by
  refine jx_of (plainFor_of_name (by decide)) (so_le rfl) ?_
  show jg_ ((tm_j S0 sg), (tm_j S0 sg'), .inl (some (.int res))) kX8_forceBy 0 [(0, .ref (tm_a 0)), (1, .int a1), (2, .int a2), (3, .int a3), (4, .int a4), (5, .int a5), (6, .int a6), (7, .int a7), (8, .int a8)] [] (tm_j S0 sg)
  unfold fX8_forceBy at hf
  refine jr_aload_n dX8_forceBy_0 rfl rfl jv_rr ?_
  refine tr_getR (c := 386) hT (List.mem_of_getElem? (i := 17) rfl) fl_X8_67_23 dX8_forceBy_1 ?_
  refine jr_iconst dX8_forceBy_4 ic_0 ?_
  refine jr_iload_n dX8_forceBy_5 rfl rfl ?_
  obtain ⟨g1, hf⟩ := so_gdE hf
  refine tr_iastore hT (show tm_k 386 = 50 from rfl) rfl (so_inE g1) dX8_forceBy_6 ?_
  refine tm_let_e hf (fun S2 hf => ?_)
  refine jr_aload_n dX8_forceBy_7 rfl rfl jv_rr ?_
  refine tr_getR (c := 386) hT (List.mem_of_getElem? (i := 17) rfl) fl_X8_67_23 dX8_forceBy_8 ?_
  refine jr_iconst dX8_forceBy_11 ic_1 ?_
  refine jr_iload_n dX8_forceBy_12 rfl rfl ?_
  obtain ⟨g3, hf⟩ := so_gdE hf
  refine tr_iastore hT (show tm_k 386 = 50 from rfl) rfl (so_inE g3) dX8_forceBy_13 ?_
  refine tm_let_e hf (fun S4 hf => ?_)
  refine jr_aload_n dX8_forceBy_14 rfl rfl jv_rr ?_
  refine tr_getR (c := 386) hT (List.mem_of_getElem? (i := 17) rfl) fl_X8_67_23 dX8_forceBy_15 ?_
  refine jr_iconst dX8_forceBy_18 ic_2 ?_
  refine jr_iload_n dX8_forceBy_19 rfl rfl ?_
  obtain ⟨g5, hf⟩ := so_gdE hf
  refine tr_iastore hT (show tm_k 386 = 50 from rfl) rfl (so_inE g5) dX8_forceBy_20 ?_
  refine tm_let_e hf (fun S6 hf => ?_)
  refine jr_aload_n dX8_forceBy_21 rfl rfl jv_rr ?_
  refine tr_getR (c := 386) hT (List.mem_of_getElem? (i := 17) rfl) fl_X8_67_23 dX8_forceBy_22 ?_
  refine jr_iconst dX8_forceBy_25 ic_3 ?_
  refine jr_iload dX8_forceBy_26 rfl ?_
  obtain ⟨g7, hf⟩ := so_gdE hf
  refine tr_iastore hT (show tm_k 386 = 50 from rfl) rfl (so_inE g7) dX8_forceBy_28 ?_
  refine tm_let_e hf (fun S8 hf => ?_)
  refine jr_aload_n dX8_forceBy_29 rfl rfl jv_rr ?_
  refine tr_getR (c := 386) hT (List.mem_of_getElem? (i := 17) rfl) fl_X8_67_23 dX8_forceBy_30 ?_
  refine jr_iconst dX8_forceBy_33 ic_4 ?_
  refine jr_iload dX8_forceBy_34 rfl ?_
  obtain ⟨g9, hf⟩ := so_gdE hf
  refine tr_iastore hT (show tm_k 386 = 50 from rfl) rfl (so_inE g9) dX8_forceBy_36 ?_
  refine tm_let_e hf (fun S10 hf => ?_)
  refine jr_aload_n dX8_forceBy_37 rfl rfl jv_rr ?_
  refine tr_getR (c := 386) hT (List.mem_of_getElem? (i := 17) rfl) fl_X8_67_23 dX8_forceBy_38 ?_
  refine jr_iconst dX8_forceBy_41 ic_5 ?_
  refine jr_iload dX8_forceBy_42 rfl ?_
  obtain ⟨g11, hf⟩ := so_gdE hf
  refine tr_iastore hT (show tm_k 386 = 50 from rfl) rfl (so_inE g11) dX8_forceBy_44 ?_
  refine tm_let_e hf (fun S12 hf => ?_)
  refine jr_aload_n dX8_forceBy_45 rfl rfl jv_rr ?_
  refine tr_getR (c := 386) hT (List.mem_of_getElem? (i := 17) rfl) fl_X8_67_23 dX8_forceBy_46 ?_
  refine jr_bipush dX8_forceBy_49 bp_6 ?_
  refine jr_iload dX8_forceBy_51 rfl ?_
  obtain ⟨g13, hf⟩ := so_gdE hf
  refine tr_iastore hT (show tm_k 386 = 50 from rfl) rfl (so_inE g13) dX8_forceBy_53 ?_
  refine tm_let_e hf (fun S14 hf => ?_)
  refine jr_aload_n dX8_forceBy_54 rfl rfl jv_rr ?_
  refine tr_getR (c := 386) hT (List.mem_of_getElem? (i := 17) rfl) fl_X8_67_23 dX8_forceBy_55 ?_
  refine jr_bipush dX8_forceBy_58 bp_7 ?_
  refine jr_iload dX8_forceBy_60 rfl ?_
  obtain ⟨g15, hf⟩ := so_gdE hf
  refine tr_iastore hT (show tm_k 386 = 50 from rfl) rfl (so_inE g15) dX8_forceBy_62 ?_
  refine tm_let_e hf (fun S16 hf => ?_)
  refine jr_aload_n dX8_forceBy_63 rfl rfl jv_rr ?_
  obtain ⟨r18, S19, h17, hf⟩ := tm_b2E hf
  refine jr_callM (st := []) lk_X8_275_23 (wX8_byLaw hT S16 h17) tm_k23 rfl rfl rfl (so_le rfl) (so_le rfl) dX8_forceBy_64 ?_
  obtain ⟨rfl, rfl⟩ := so_e2 hf
  exact jr_iret rfl rfl dX8_forceBy_67

/- X8_forceWith -/
abbrev kX8_forceWith : jx_K := (cX8_forceWith, 7, RX8, 4, (Option.some Jvm.ClassFile.FieldType.int), "forceWith", [])
def LX8_forceWith_22 (f1 : Nat) (f2 : Int32) (f3 : Int32) (f4 : Int32) (k60 : Int32 → tm_S → Option (Int32 × tm_S)) : Nat → Int32 → Int32 → tm_S → Option (Int32 × tm_S)
  | 0, _, _, _ => none
  | n + 1, v3, v4, S5 =>
    so_gd (so_in (2 : Int32) 4) fun _ =>
    if (S5 4 (2 : Int32).toNatClampNeg) ≤ v4 then
    (k60 v3 S5)
    else
    ((fX8_isBeside f1 f2 v4 S5).bind fun r9 =>
    so_j (κ := Int32 → Option (Int32 × tm_S)) (ρ := Option (Int32 × tm_S)) (fun (v10 : Int32) =>
    LX8_forceWith_22 f1 f2 f3 f4 k60 n (v3 + v10) (v4 + (1 : Int32)) S5)
    (fun J11 =>
    if r9 = (0 : Int32) then
    (J11 (0 : Int32))
    else
    (J11 (1 : Int32))))
set_option maxHeartbeats 4000000 in
set_option maxRecDepth 100000 in
theorem wX8_forceWith_22 {res : Int32} {sg' : tm_S} {S0 : so_St} {sg0 : tm_S}   (f1 : Nat) (f2 : Int32) (f3 : Int32) (f4 : Int32) (hT : tm_Sh S0)  (k_f1 : tm_k f1 = 50) (k60 : Int32 → tm_S → Option (Int32 × tm_S)) (h60 : ∀ (v13 : Int32) (S14 : tm_S), k60 v13 S14 = some (res, sg') → jg_ (tm_j S0 sg0, tm_j S0 sg', .inl (some (.int res))) kX8_forceWith 60 [(0, .ref (tm_a 0)), (1, .ref (tm_a f1)), (2, .int f2), (3, .int f3), (4, .int f4), (5, .int v13)] [] (tm_j S0 S14)) : ∀ (n : Nat) (v3 : Int32) (v4 : Int32) (S5 : tm_S), LX8_forceWith_22 f1 f2 f3 f4 k60 n v3 v4 S5 = some (res, sg') → jg_ (tm_j S0 sg0, tm_j S0 sg', .inl (some (.int res))) kX8_forceWith 22 [(0, .ref (tm_a 0)), (1, .ref (tm_a f1)), (2, .int f2), (3, .int f3), (4, .int f4), (5, .int v3), (6, .int v4)] [] (tm_j S0 S5) := by
  intro n
  induction n with
  | zero =>
    intro v3 v4 S5 hf
    exact so_no hf
  | succ n ih =>
    intro v3 v4 S5 hf
    rw [LX8_forceWith_22] at hf
    refine jr_iload dX8_forceWith_22 rfl ?_
    refine jr_aload_n dX8_forceWith_24 rfl rfl jv_rr ?_
    refine tr_getR (c := 4) hT (List.mem_of_getElem? (i := 3) rfl) fl_X8_23_23 dX8_forceWith_25 ?_
    refine jr_iconst dX8_forceWith_28 ic_2 ?_
    obtain ⟨g6, hf⟩ := so_gdE hf
    refine tr_iaload hT (show tm_k 4 = 50 from rfl) rfl (so_inE g6) dX8_forceWith_29 ?_
    refine jr_icmp_ge (tgt := 60) dX8_forceWith_30 rfl (fun c7 => ?_) (fun c7 => ?_)
    · have hf := so_t c7 hf
      refine jr_sub [0, 1, 2, 3, 4, 5] rfl ?_
      exact h60 v3 S5 hf
    · have hf := so_f c7 hf
      refine jr_iload dX8_forceWith_33 rfl ?_
      refine jr_aload_n dX8_forceWith_35 rfl rfl jv_rr ?_
      refine jr_aload_n dX8_forceWith_36 rfl rfl jv_rr ?_
      refine jr_iload_n dX8_forceWith_37 rfl rfl ?_
      refine jr_iload dX8_forceWith_38 rfl ?_
      obtain ⟨r9, h8, hf⟩ := so_b hf
      refine jr_callM (st := [.int v3]) lk_X8_271_23 (wX8_isBeside f1 f2 v4 hT S5 k_f1 h8) tm_k23 rfl rfl rfl (so_le rfl) (so_le rfl) dX8_forceWith_40 ?_
      refine so_jE hf (fun J => ∀ (v10 : Int32), J v10 = some (res, sg') → jg_ (tm_j S0 sg0, tm_j S0 sg', .inl (some (.int res))) kX8_forceWith 51 [(0, .ref (tm_a 0)), (1, .ref (tm_a f1)), (2, .int f2), (3, .int f3), (4, .int f4), (6, .int v4)] [.int v10, .int v3] (tm_j S0 S5)) (fun v10 hf => ?_) (fun J11 hJ11 hf => ?_)
      · refine jr_iadd dX8_forceWith_51 ?_
        refine jr_istore (lv' := [(0, .ref (tm_a 0)), (1, .ref (tm_a f1)), (2, .int f2), (3, .int f3), (4, .int f4), (5, .int (v3 + v10)), (6, .int v4)]) dX8_forceWith_52 (so_le rfl) rfl ?_
        refine jr_iinc (v := v4 + (1 : Int32)) (lv' := [(0, .ref (tm_a 0)), (1, .ref (tm_a f1)), (2, .int f2), (3, .int f3), (4, .int f4), (5, .int (v3 + v10)), (6, .int (v4 + (1 : Int32)))]) dX8_forceWith_54 rfl rfl (so_le rfl) rfl ?_
        refine jr_goto (tgt := 22) dX8_forceWith_57 rfl ?_
        exact ih (v3 + v10) (v4 + (1 : Int32)) S5 hf
      · refine jr_if_eq (tgt := 50) dX8_forceWith_43 rfl (fun c12 => ?_) (fun c12 => ?_)
        · have hf := so_t c12 hf
          refine jr_iconst dX8_forceWith_50 ic_0 ?_
          refine jr_sub [0, 1, 2, 3, 4, 6] rfl ?_
          exact hJ11 (0 : Int32) hf
        · have hf := so_f c12 hf
          refine jr_iconst dX8_forceWith_46 ic_1 ?_
          refine jr_goto (tgt := 51) dX8_forceWith_47 rfl ?_
          refine jr_sub [0, 1, 2, 3, 4, 6] rfl ?_
          exact hJ11 (1 : Int32) hf
def fX8_forceWith (a1 : Nat) (a2 : Int32) (a3 : Int32) (sg : tm_S) : Option (Int32 × tm_S) :=
  so_gd (so_in ((80 : Int32) + a2) (tm_len a1)) fun _ =>
  if (sg a1 ((80 : Int32) + a2).toNatClampNeg) = (-1 : Int32) then
  (some ((0 : Int32), sg))
  else
  (LX8_forceWith_22 a1 a2 a3 (sg a1 ((80 : Int32) + a2).toNatClampNeg) (fun (v15 : Int32) (S16 : tm_S) =>
  so_gd (so_in a2 6) fun _ =>
  so_gd (so_in (1 : Int32) 2) fun _ =>
  so_gd (so_in ((92 : Int32) + a2) (tm_len a1)) fun _ =>
  so_gd (so_in a2 6) fun _ =>
  so_gd (so_in (0 : Int32) 2) fun _ =>
  so_gd (so_in (((0 : Int32) + ((10 : Int32) * (sg a1 ((80 : Int32) + a2).toNatClampNeg))) + (S16 (43 + a2.toNatClampNeg) (0 : Int32).toNatClampNeg)) (tm_len a1)) fun _ =>
  so_gd (so_in a2 6) fun _ =>
  so_gd (so_in (0 : Int32) 2) fun _ =>
  so_gd (so_in (99 : Int32) (tm_len a1)) fun _ =>
  tm_b2 (fX8_forceBy (S16 (43 + a2.toNatClampNeg) (1 : Int32).toNatClampNeg) a3 (S16 a1 ((92 : Int32) + a2).toNatClampNeg) (S16 a1 (((0 : Int32) + ((10 : Int32) * (sg a1 ((80 : Int32) + a2).toNatClampNeg))) + (S16 (43 + a2.toNatClampNeg) (0 : Int32).toNatClampNeg)).toNatClampNeg) (S16 (43 + a2.toNatClampNeg) (0 : Int32).toNatClampNeg) v15 (sg a1 ((80 : Int32) + a2).toNatClampNeg) (S16 a1 (99 : Int32).toNatClampNeg) S16) fun r27 S28 =>
  some (r27, S28)) so_N (0 : Int32) (0 : Int32) sg)
set_option maxHeartbeats 4000000 in
set_option maxRecDepth 100000 in
theorem wX8_forceWith {res : Int32} {sg' : tm_S} {S0 : so_St}  (a1 : Nat) (a2 : Int32) (a3 : Int32) (hT : tm_Sh S0) (sg : tm_S) (k_a1 : tm_k a1 = 50) (hf : fX8_forceWith a1 a2 a3 sg = some (res, sg')) : jx_Sp 4 yX8_forceWith (ws_ yX8_forceWith cX8_forceWith 7 (Option.some Jvm.ClassFile.FieldType.int)) [.ref (tm_a 0), .ref (tm_a a1), .int a2, .int a3] (tm_j S0 sg) (.inl (some (.int res))) (tm_j S0 sg') := by
  refine jx_of (plainFor_of_name (by decide)) (so_le rfl) ?_
  show jg_ ((tm_j S0 sg), (tm_j S0 sg'), .inl (some (.int res))) kX8_forceWith 0 [(0, .ref (tm_a 0)), (1, .ref (tm_a a1)), (2, .int a2), (3, .int a3)] [] (tm_j S0 sg)
  unfold fX8_forceWith at hf
  refine jr_aload_n dX8_forceWith_0 rfl rfl jv_rr ?_
  refine jr_bipush dX8_forceWith_1 bp_80 ?_
  refine jr_iload_n dX8_forceWith_3 rfl rfl ?_
  refine jr_iadd dX8_forceWith_4 ?_
  obtain ⟨g1, hf⟩ := so_gdE hf
  refine tr_iaload hT k_a1 rfl (so_inE g1) dX8_forceWith_5 ?_
  refine jr_istore (lv' := [(0, .ref (tm_a 0)), (1, .ref (tm_a a1)), (2, .int a2), (3, .int a3), (4, .int (sg a1 ((80 : Int32) + a2).toNatClampNeg))]) dX8_forceWith_6 (so_le rfl) rfl ?_
  refine jr_iconst dX8_forceWith_8 ic_0 ?_
  refine jr_istore (lv' := [(0, .ref (tm_a 0)), (1, .ref (tm_a a1)), (2, .int a2), (3, .int a3), (4, .int (sg a1 ((80 : Int32) + a2).toNatClampNeg)), (5, .int (0 : Int32))]) dX8_forceWith_9 (so_le rfl) rfl ?_
  refine jr_iload dX8_forceWith_11 rfl ?_
  refine jr_iconst dX8_forceWith_13 ic_m1 ?_
  refine jr_icmp_ne (tgt := 19) dX8_forceWith_14 rfl (fun c2 => ?_) (fun c2 => ?_)
  · have hf := so_f c2 hf
    refine jr_iconst dX8_forceWith_19 ic_0 ?_
    refine jr_istore (lv' := [(0, .ref (tm_a 0)), (1, .ref (tm_a a1)), (2, .int a2), (3, .int a3), (4, .int (sg a1 ((80 : Int32) + a2).toNatClampNeg)), (5, .int (0 : Int32)), (6, .int (0 : Int32))]) dX8_forceWith_20 (so_le rfl) rfl ?_
    refine wX8_forceWith_22 a1 a2 a3 (sg a1 ((80 : Int32) + a2).toNatClampNeg) hT k_a1 _ (fun v15 S16 hf => ?_) so_N (0 : Int32) (0 : Int32) sg hf
    refine jr_aload_n dX8_forceWith_60 rfl rfl jv_rr ?_
    refine jr_aload_n dX8_forceWith_61 rfl rfl jv_rr ?_
    refine tr_getR (c := 42) hT (List.mem_of_getElem? (i := 11) rfl) fl_X8_49_23 dX8_forceWith_62 ?_
    refine jr_iload_n dX8_forceWith_65 rfl rfl ?_
    obtain ⟨g17, hf⟩ := so_gdE hf
    refine tr_aaload (g' := 43) hT (show tm_k 42 = 56 from rfl) rfl rfl (so_inE g17) dX8_forceWith_66 ?_
    refine jr_iconst dX8_forceWith_67 ic_1 ?_
    obtain ⟨g18, hf⟩ := so_gdE hf
    refine tr_iaload hT (tm_rk_42 (so_inE g17)) (tm_rl_42 (so_inE g17)) (so_inE g18) dX8_forceWith_68 ?_
    refine jr_iload_n dX8_forceWith_69 rfl rfl ?_
    refine jr_aload_n dX8_forceWith_70 rfl rfl jv_rr ?_
    refine jr_bipush dX8_forceWith_71 bp_92 ?_
    refine jr_iload_n dX8_forceWith_73 rfl rfl ?_
    refine jr_iadd dX8_forceWith_74 ?_
    obtain ⟨g19, hf⟩ := so_gdE hf
    refine tr_iaload hT k_a1 rfl (so_inE g19) dX8_forceWith_75 ?_
    refine jr_aload_n dX8_forceWith_76 rfl rfl jv_rr ?_
    refine jr_iconst dX8_forceWith_77 ic_0 ?_
    refine jr_bipush dX8_forceWith_78 bp_10 ?_
    refine jr_iload dX8_forceWith_80 rfl ?_
    refine jr_imul dX8_forceWith_82 ?_
    refine jr_iadd dX8_forceWith_83 ?_
    refine jr_aload_n dX8_forceWith_84 rfl rfl jv_rr ?_
    refine tr_getR (c := 42) hT (List.mem_of_getElem? (i := 11) rfl) fl_X8_49_23 dX8_forceWith_85 ?_
    refine jr_iload_n dX8_forceWith_88 rfl rfl ?_
    obtain ⟨g20, hf⟩ := so_gdE hf
    refine tr_aaload (g' := 43) hT (show tm_k 42 = 56 from rfl) rfl rfl (so_inE g20) dX8_forceWith_89 ?_
    refine jr_iconst dX8_forceWith_90 ic_0 ?_
    obtain ⟨g21, hf⟩ := so_gdE hf
    refine tr_iaload hT (tm_rk_42 (so_inE g20)) (tm_rl_42 (so_inE g20)) (so_inE g21) dX8_forceWith_91 ?_
    refine jr_iadd dX8_forceWith_92 ?_
    obtain ⟨g22, hf⟩ := so_gdE hf
    refine tr_iaload hT k_a1 rfl (so_inE g22) dX8_forceWith_93 ?_
    refine jr_aload_n dX8_forceWith_94 rfl rfl jv_rr ?_
    refine tr_getR (c := 42) hT (List.mem_of_getElem? (i := 11) rfl) fl_X8_49_23 dX8_forceWith_95 ?_
    refine jr_iload_n dX8_forceWith_98 rfl rfl ?_
    obtain ⟨g23, hf⟩ := so_gdE hf
    refine tr_aaload (g' := 43) hT (show tm_k 42 = 56 from rfl) rfl rfl (so_inE g23) dX8_forceWith_99 ?_
    refine jr_iconst dX8_forceWith_100 ic_0 ?_
    obtain ⟨g24, hf⟩ := so_gdE hf
    refine tr_iaload hT (tm_rk_42 (so_inE g23)) (tm_rl_42 (so_inE g23)) (so_inE g24) dX8_forceWith_101 ?_
    refine jr_iload dX8_forceWith_102 rfl ?_
    refine jr_iload dX8_forceWith_104 rfl ?_
    refine jr_aload_n dX8_forceWith_106 rfl rfl jv_rr ?_
    refine jr_bipush dX8_forceWith_107 bp_99 ?_
    obtain ⟨g25, hf⟩ := so_gdE hf
    refine tr_iaload hT k_a1 rfl (so_inE g25) dX8_forceWith_109 ?_
    obtain ⟨r27, S28, h26, hf⟩ := tm_b2E hf
    refine jr_callM (st := []) lk_X8_278_23 (wX8_forceBy (S16 (43 + a2.toNatClampNeg) (1 : Int32).toNatClampNeg) a3 (S16 a1 ((92 : Int32) + a2).toNatClampNeg) (S16 a1 (((0 : Int32) + ((10 : Int32) * (sg a1 ((80 : Int32) + a2).toNatClampNeg))) + (S16 (43 + a2.toNatClampNeg) (0 : Int32).toNatClampNeg)).toNatClampNeg) (S16 (43 + a2.toNatClampNeg) (0 : Int32).toNatClampNeg) v15 (sg a1 ((80 : Int32) + a2).toNatClampNeg) (S16 a1 (99 : Int32).toNatClampNeg) hT S16 h26) tm_k23 rfl rfl rfl (so_le rfl) (so_le rfl) dX8_forceWith_110 ?_
    obtain ⟨rfl, rfl⟩ := so_e2 hf
    exact jr_iret rfl rfl dX8_forceWith_113
  · have hf := so_t c2 hf
    refine jr_iconst dX8_forceWith_17 ic_0 ?_
    obtain ⟨rfl, rfl⟩ := so_e2 hf
    exact jr_iret rfl rfl dX8_forceWith_18
