/-! printed: functions and walks -/
set_option maxRecDepth 100000
set_option linter.unusedVariables false
/- X8_in -/
abbrev kX8_in : jx_K := (cX8_in, 3, RX8, 0, (Option.some Jvm.ClassFile.FieldType.boolean), "in", [])
def fX8_in (a0 : Int32) (a1 : Int32) (a2 : Int32) : Int32 :=
  if a0 < a1 then
  ((0 : Int32))
  else
  (if a2 < a0 then
  ((0 : Int32))
  else
  ((1 : Int32)))
set_option maxHeartbeats 4000000 in
set_option maxRecDepth 100000 in
theorem wX8_in {res : Int32} {S0 : so_St}  (a0 : Int32) (a1 : Int32) (a2 : Int32) (hT : tm_Sh S0) (sg : tm_S)  (hf : fX8_in a0 a1 a2 = res) : jx_Sp 0 yX8_in (ws_ yX8_in cX8_in 3 (Option.some Jvm.ClassFile.FieldType.boolean)) [.int a0, .int a1, .int a2] (tm_j S0 sg) (.inl (some (.int res))) (tm_j S0 sg) := by
  refine jx_of (plainFor_of_name (by decide)) (so_le rfl) ?_
  show jg_ ((tm_j S0 sg), (tm_j S0 sg), .inl (some (.int res))) kX8_in 0 [(0, .int a0), (1, .int a1), (2, .int a2)] [] (tm_j S0 sg)
  unfold fX8_in at hf
  refine jr_iload_n dX8_in_0 rfl rfl ?_
  refine jr_iload_n dX8_in_1 rfl rfl ?_
  refine jr_icmp_lt (tgt := 14) dX8_in_2 rfl (fun c1 => ?_) (fun c1 => ?_)
  · have hf := so_t c1 hf
    refine jr_iconst dX8_in_14 ic_0 ?_
    obtain rfl := hf
    exact jr_iret rfl rfl dX8_in_15
  · have hf := so_f c1 hf
    refine jr_iload_n dX8_in_5 rfl rfl ?_
    refine jr_iload_n dX8_in_6 rfl rfl ?_
    refine jr_icmp_gt (tgt := 14) dX8_in_7 rfl (fun c2 => ?_) (fun c2 => ?_)
    · have hf := so_t c2 hf
      refine jr_iconst dX8_in_14 ic_0 ?_
      obtain rfl := hf
      exact jr_iret rfl rfl dX8_in_15
    · have hf := so_f c2 hf
      refine jr_iconst dX8_in_10 ic_1 ?_
      refine jr_goto (tgt := 15) dX8_in_11 rfl ?_
      obtain rfl := hf
      exact jr_iret rfl rfl dX8_in_15

/- X8_bad -/
abbrev kX8_bad : jx_K := (cX8_bad, 4, RX8, 0, (Option.some Jvm.ClassFile.FieldType.boolean), "bad", [])
def fX8_bad (a1 : Int32) (a2 : Int32) (a3 : Int32) (sg : tm_S) : Option (Int32 × tm_S) :=
  so_j (κ := tm_S → Option (Int32 × tm_S)) (ρ := Option (Int32 × tm_S)) (fun (S1 : tm_S) =>
  if (S1 0 0) = (0 : Int32) then
  (some ((0 : Int32), S1))
  else
  (some ((1 : Int32), S1)))
  (fun J2 =>
  if a1 = (0 : Int32) then
  (J2 sg)
  else
  (if (sg 0 0) = (0 : Int32) then
  (tm_let (tm_up sg 0 0 a2) fun S6 =>
  so_gd (so_in a3 2) fun _ =>
  so_gd (so_in a3 2) fun _ =>
  tm_let (tm_up S6 2 a3.toNatClampNeg ((S6 2 a3.toNatClampNeg) + (1 : Int32))) fun S9 =>
  J2 S9)
  else
  (J2 sg)))
set_option maxHeartbeats 4000000 in
set_option maxRecDepth 100000 in
theorem wX8_bad {res : Int32} {sg' : tm_S} {S0 : so_St}  (a1 : Int32) (a2 : Int32) (a3 : Int32) (hT : tm_Sh S0) (sg : tm_S)  (hf : fX8_bad a1 a2 a3 sg = some (res, sg')) : jx_Sp 0 yX8_bad (ws_ yX8_bad cX8_bad 4 (Option.some Jvm.ClassFile.FieldType.boolean)) [.ref (tm_a 0), .int a1, .int a2, .int a3] (tm_j S0 sg) (.inl (some (.int res))) (tm_j S0 sg') := by
  refine jx_of (plainFor_of_name (by decide)) (so_le rfl) ?_
  show jg_ ((tm_j S0 sg), (tm_j S0 sg'), .inl (some (.int res))) kX8_bad 0 [(0, .ref (tm_a 0)), (1, .int a1), (2, .int a2), (3, .int a3)] [] (tm_j S0 sg)
  unfold fX8_bad at hf
  refine jr_iload_n dX8_bad_0 rfl rfl ?_
  refine so_jE hf (fun J => ∀ (S1 : tm_S), J S1 = some (res, sg') → jg_ (tm_j S0 sg, tm_j S0 sg', .inl (some (.int res))) kX8_bad 26 [(0, .ref (tm_a 0))] [] (tm_j S0 S1)) (fun S1 hf => ?_) (fun J2 hJ2 hf => ?_)
  · refine jr_aload_n dX8_bad_26 rfl rfl jv_rr ?_
    refine tr_getI fl_X8_106_23 dX8_bad_27 ?_
    refine jr_if_eq (tgt := 37) dX8_bad_30 rfl (fun c3 => ?_) (fun c3 => ?_)
    · have hf := so_t c3 hf
      refine jr_iconst dX8_bad_37 ic_0 ?_
      obtain ⟨rfl, rfl⟩ := so_e2 hf
      exact jr_iret rfl rfl dX8_bad_38
    · have hf := so_f c3 hf
      refine jr_iconst dX8_bad_33 ic_1 ?_
      refine jr_goto (tgt := 38) dX8_bad_34 rfl ?_
      obtain ⟨rfl, rfl⟩ := so_e2 hf
      exact jr_iret rfl rfl dX8_bad_38
  · refine jr_if_eq (tgt := 26) dX8_bad_1 rfl (fun c4 => ?_) (fun c4 => ?_)
    · have hf := so_t c4 hf
      refine jr_sub [0] rfl ?_
      exact hJ2 sg hf
    · have hf := so_f c4 hf
      refine jr_aload_n dX8_bad_4 rfl rfl jv_rr ?_
      refine tr_getI fl_X8_106_23 dX8_bad_5 ?_
      refine jr_if_ne (tgt := 26) dX8_bad_8 rfl (fun c5 => ?_) (fun c5 => ?_)
      · have hf := so_f c5 hf
        refine jr_sub [0] rfl ?_
        exact hJ2 sg hf
      · have hf := so_t c5 hf
        refine jr_aload_n dX8_bad_11 rfl rfl jv_rr ?_
        refine jr_iload_n dX8_bad_12 rfl rfl ?_
        refine tr_putI fp_X8_106_23 dX8_bad_13 ?_
        refine tm_let_e hf (fun S6 hf => ?_)
        refine jr_aload_n dX8_bad_16 rfl rfl jv_rr ?_
        refine tr_getR (c := 2) hT (List.mem_of_getElem? (i := 1) rfl) fl_X8_17_23 dX8_bad_17 ?_
        refine jr_iload_n dX8_bad_20 rfl rfl ?_
        refine jr_dup2 dX8_bad_21 rfl rfl ?_
        obtain ⟨g7, hf⟩ := so_gdE hf
        refine tr_iaload hT (show tm_k 2 = 50 from rfl) rfl (so_inE g7) dX8_bad_22 ?_
        refine jr_iconst dX8_bad_23 ic_1 ?_
        refine jr_iadd dX8_bad_24 ?_
        obtain ⟨g8, hf⟩ := so_gdE hf
        refine tr_iastore hT (show tm_k 2 = 50 from rfl) rfl (so_inE g8) dX8_bad_25 ?_
        refine tm_let_e hf (fun S9 hf => ?_)
        refine jr_sub [0] rfl ?_
        exact hJ2 S9 hf

/- X8_byteAt -/
abbrev kX8_byteAt : jx_K := (cX8_byteAt, 2, RX8, 0, (Option.some Jvm.ClassFile.FieldType.int), "byteAt", [])
def fX8_byteAt (a1 : Int32) (sg : tm_S) : Option Int32 :=
  if a1 < (sg 0 2) then
  (so_gd (so_in a1 600) fun _ =>
  some (sg 1 a1.toNatClampNeg))
  else
  (some (-1 : Int32))
set_option maxHeartbeats 4000000 in
set_option maxRecDepth 100000 in
theorem wX8_byteAt {res : Int32} {S0 : so_St}  (a1 : Int32) (hT : tm_Sh S0) (sg : tm_S)  (hf : fX8_byteAt a1 sg = some res) : jx_Sp 0 yX8_byteAt (ws_ yX8_byteAt cX8_byteAt 2 (Option.some Jvm.ClassFile.FieldType.int)) [.ref (tm_a 0), .int a1] (tm_j S0 sg) (.inl (some (.int res))) (tm_j S0 sg) := by
  refine jx_of (plainFor_of_name (by decide)) (so_le rfl) ?_
  show jg_ ((tm_j S0 sg), (tm_j S0 sg), .inl (some (.int res))) kX8_byteAt 0 [(0, .ref (tm_a 0)), (1, .int a1)] [] (tm_j S0 sg)
  unfold fX8_byteAt at hf
  refine jr_iload_n dX8_byteAt_0 rfl rfl ?_
  refine jr_aload_n dX8_byteAt_1 rfl rfl jv_rr ?_
  refine tr_getI fl_X8_112_23 dX8_byteAt_2 ?_
  refine jr_icmp_lt (tgt := 12) dX8_byteAt_5 rfl (fun c1 => ?_) (fun c1 => ?_)
  · have hf := so_t c1 hf
    refine jr_aload_n dX8_byteAt_12 rfl rfl jv_rr ?_
    refine tr_getR (c := 1) hT (List.mem_of_getElem? (i := 0) rfl) fl_X8_13_23 dX8_byteAt_13 ?_
    refine jr_iload_n dX8_byteAt_16 rfl rfl ?_
    obtain ⟨g2, hf⟩ := so_gdE hf
    refine tr_iaload hT (show tm_k 1 = 50 from rfl) rfl (so_inE g2) dX8_byteAt_17 ?_
    obtain rfl := so_e1 hf
    exact jr_iret rfl rfl dX8_byteAt_18
  · have hf := so_f c1 hf
    refine jr_iconst dX8_byteAt_8 ic_m1 ?_
    refine jr_goto (tgt := 18) dX8_byteAt_9 rfl ?_
    obtain rfl := so_e1 hf
    exact jr_iret rfl rfl dX8_byteAt_18

/- X8_blanks -/
abbrev kX8_blanks : jx_K := (cX8_blanks, 1, RX8, 1, (Option.none : Option Jvm.ClassFile.FieldType), "blanks", [])
def LX8_blanks_0  : Nat → tm_S → Option tm_S
  | 0, _ => none
  | n + 1, S1 =>
    (fX8_byteAt (S1 0 4) S1).bind fun r3 =>
    if r3 = (32 : Int32) then
    (tm_let (tm_up S1 0 4 ((S1 0 4) + (1 : Int32))) fun S5 =>
    LX8_blanks_0 n S5)
    else
    (some S1)
set_option maxHeartbeats 4000000 in
set_option maxRecDepth 100000 in
theorem wX8_blanks_0 {sg' : tm_S} {S0 : so_St} {sg0 : tm_S}    (hT : tm_Sh S0)   : ∀ (n : Nat) (S1 : tm_S), LX8_blanks_0 n S1 = some sg' → jg_ (tm_j S0 sg0, tm_j S0 sg', .inl none) kX8_blanks 0 [(0, .ref (tm_a 0))] [] (tm_j S0 S1) := by
  intro n
  induction n with
  | zero =>
    intro S1 hf
    exact so_no hf
  | succ n ih =>
    intro S1 hf
    rw [LX8_blanks_0] at hf
    refine jr_aload_n dX8_blanks_0 rfl rfl jv_rr ?_
    refine jr_aload_n dX8_blanks_1 rfl rfl jv_rr ?_
    refine tr_getI fl_X8_115_23 dX8_blanks_2 ?_
    obtain ⟨r3, h2, hf⟩ := so_b hf
    refine jr_callM (st := []) lk_X8_118_23 (wX8_byteAt (S1 0 4) hT S1 h2) tm_k23 rfl rfl rfl (so_le rfl) (so_le rfl) dX8_blanks_5 ?_
    refine jr_bipush dX8_blanks_8 bp_32 ?_
    refine jr_icmp_ne (tgt := 26) dX8_blanks_10 rfl (fun c4 => ?_) (fun c4 => ?_)
    · have hf := so_f c4 hf
      obtain rfl := so_e1 hf
      exact jr_vret rfl dX8_blanks_26
    · have hf := so_t c4 hf
      refine jr_aload_n dX8_blanks_13 rfl rfl jv_rr ?_
      refine jr_dup dX8_blanks_14 rfl ?_
      refine tr_getI fl_X8_115_23 dX8_blanks_15 ?_
      refine jr_iconst dX8_blanks_18 ic_1 ?_
      refine jr_iadd dX8_blanks_19 ?_
      refine tr_putI fp_X8_115_23 dX8_blanks_20 ?_
      refine tm_let_e hf (fun S5 hf => ?_)
      refine jr_goto (tgt := 0) dX8_blanks_23 rfl ?_
      exact ih S5 hf
def fX8_blanks  (sg : tm_S) : Option tm_S :=
  LX8_blanks_0 so_N sg
set_option maxHeartbeats 4000000 in
set_option maxRecDepth 100000 in
theorem wX8_blanks {sg' : tm_S} {S0 : so_St}   (hT : tm_Sh S0) (sg : tm_S)  (hf : fX8_blanks sg = some sg') : jx_Sp 1 yX8_blanks (ws_ yX8_blanks cX8_blanks 1 (Option.none : Option Jvm.ClassFile.FieldType)) [.ref (tm_a 0)] (tm_j S0 sg) (.inl none) (tm_j S0 sg') := by
  refine jx_of (plainFor_of_name (by decide)) (so_le rfl) ?_
  show jg_ ((tm_j S0 sg), (tm_j S0 sg'), .inl none) kX8_blanks 0 [(0, .ref (tm_a 0))] [] (tm_j S0 sg)
  unfold fX8_blanks at hf
  refine wX8_blanks_0 hT so_N sg hf

/- X8_starts -/
abbrev kX8_starts : jx_K := (cX8_starts, 2, RX8, 2, (Option.none : Option Jvm.ClassFile.FieldType), "starts", [])
def fX8_starts (a1 : Int32) (sg : tm_S) : Option tm_S :=
  tm_let (tm_up sg 0 1 (0 : Int32)) fun S1 =>
  tm_let (tm_up S1 0 2 a1) fun S2 =>
  tm_let (tm_up S2 0 4 (0 : Int32)) fun S3 =>
  tm_let (tm_up S3 0 5 (0 : Int32)) fun S4 =>
  tm_let (tm_up S4 0 6 (-1 : Int32)) fun S5 =>
  tm_let (tm_up S5 0 7 (0 : Int32)) fun S6 =>
  tm_let (tm_up S6 0 8 (0 : Int32)) fun S7 =>
  (fX8_blanks S7).bind fun S10 =>
  some S10
set_option maxHeartbeats 4000000 in
set_option maxRecDepth 100000 in
theorem wX8_starts {sg' : tm_S} {S0 : so_St}  (a1 : Int32) (hT : tm_Sh S0) (sg : tm_S)  (hf : fX8_starts a1 sg = some sg') : jx_Sp 2 yX8_starts (ws_ yX8_starts cX8_starts 2 (Option.none : Option Jvm.ClassFile.FieldType)) [.ref (tm_a 0), .int a1] (tm_j S0 sg) (.inl none) (tm_j S0 sg') := by
  refine jx_of (plainFor_of_name (by decide)) (so_le rfl) ?_
  show jg_ ((tm_j S0 sg), (tm_j S0 sg'), .inl none) kX8_starts 0 [(0, .ref (tm_a 0)), (1, .int a1)] [] (tm_j S0 sg)
  unfold fX8_starts at hf
  refine jr_aload_n dX8_starts_0 rfl rfl jv_rr ?_
  refine jr_iconst dX8_starts_1 ic_0 ?_
  refine tr_putI fp_X8_109_23 dX8_starts_2 ?_
  refine tm_let_e hf (fun S1 hf => ?_)
  refine jr_aload_n dX8_starts_5 rfl rfl jv_rr ?_
  refine jr_iload_n dX8_starts_6 rfl rfl ?_
  refine tr_putI fp_X8_112_23 dX8_starts_7 ?_
  refine tm_let_e hf (fun S2 hf => ?_)
  refine jr_aload_n dX8_starts_10 rfl rfl jv_rr ?_
  refine jr_iconst dX8_starts_11 ic_0 ?_
  refine tr_putI fp_X8_115_23 dX8_starts_12 ?_
  refine tm_let_e hf (fun S3 hf => ?_)
  refine jr_aload_n dX8_starts_15 rfl rfl jv_rr ?_
  refine jr_iconst dX8_starts_16 ic_0 ?_
  refine tr_putI fp_X8_122_23 dX8_starts_17 ?_
  refine tm_let_e hf (fun S4 hf => ?_)
  refine jr_aload_n dX8_starts_20 rfl rfl jv_rr ?_
  refine jr_iconst dX8_starts_21 ic_m1 ?_
  refine tr_putI fp_X8_125_23 dX8_starts_22 ?_
  refine tm_let_e hf (fun S5 hf => ?_)
  refine jr_aload_n dX8_starts_25 rfl rfl jv_rr ?_
  refine jr_iconst dX8_starts_26 ic_0 ?_
  refine tr_putI fp_X8_162_23 dX8_starts_27 ?_
  refine tm_let_e hf (fun S6 hf => ?_)
  refine jr_aload_n dX8_starts_30 rfl rfl jv_rr ?_
  refine jr_iconst dX8_starts_31 ic_0 ?_
  refine tr_putI fp_X8_165_23 dX8_starts_32 ?_
  refine tm_let_e hf (fun S7 hf => ?_)
  refine jr_aload_n dX8_starts_35 rfl rfl jv_rr ?_
  obtain ⟨S10, h8, hf⟩ := so_b hf
  refine jr_callM (st := []) lk_X8_128_23 (wX8_blanks hT S7 h8) tm_k23 rfl rfl rfl (so_le rfl) (so_le rfl) dX8_starts_36 ?_
  obtain rfl := so_e1 hf
  exact jr_vret rfl dX8_starts_39

/- X8_isSmall -/
abbrev kX8_isSmall : jx_K := (cX8_isSmall, 1, RX8, 0, (Option.some Jvm.ClassFile.FieldType.boolean), "isSmall", [])
def fX8_isSmall (a0 : Int32) : Int32 :=
  if a0 < (97 : Int32) then
  ((0 : Int32))
  else
  (if (122 : Int32) < a0 then
  ((0 : Int32))
  else
  ((1 : Int32)))
set_option maxHeartbeats 4000000 in
set_option maxRecDepth 100000 in
theorem wX8_isSmall {res : Int32} {S0 : so_St}  (a0 : Int32) (hT : tm_Sh S0) (sg : tm_S)  (hf : fX8_isSmall a0 = res) : jx_Sp 0 yX8_isSmall (ws_ yX8_isSmall cX8_isSmall 1 (Option.some Jvm.ClassFile.FieldType.boolean)) [.int a0] (tm_j S0 sg) (.inl (some (.int res))) (tm_j S0 sg) := by
  refine jx_of (plainFor_of_name (by decide)) (so_le rfl) ?_
  show jg_ ((tm_j S0 sg), (tm_j S0 sg), .inl (some (.int res))) kX8_isSmall 0 [(0, .int a0)] [] (tm_j S0 sg)
  unfold fX8_isSmall at hf
  refine jr_iload_n dX8_isSmall_0 rfl rfl ?_
  refine jr_bipush dX8_isSmall_1 bp_97 ?_
  refine jr_icmp_lt (tgt := 16) dX8_isSmall_3 rfl (fun c1 => ?_) (fun c1 => ?_)
  · have hf := so_t c1 hf
    refine jr_iconst dX8_isSmall_16 ic_0 ?_
    obtain rfl := hf
    exact jr_iret rfl rfl dX8_isSmall_17
  · have hf := so_f c1 hf
    refine jr_iload_n dX8_isSmall_6 rfl rfl ?_
    refine jr_bipush dX8_isSmall_7 bp_122 ?_
    refine jr_icmp_gt (tgt := 16) dX8_isSmall_9 rfl (fun c2 => ?_) (fun c2 => ?_)
    · have hf := so_t c2 hf
      refine jr_iconst dX8_isSmall_16 ic_0 ?_
      obtain rfl := hf
      exact jr_iret rfl rfl dX8_isSmall_17
    · have hf := so_f c2 hf
      refine jr_iconst dX8_isSmall_12 ic_1 ?_
      refine jr_goto (tgt := 17) dX8_isSmall_13 rfl ?_
      obtain rfl := hf
      exact jr_iret rfl rfl dX8_isSmall_17

/- X8_wordHere -/
abbrev kX8_wordHere : jx_K := (cX8_wordHere, 3, RX8, 2, (Option.some Jvm.ClassFile.FieldType.int), "wordHere", [])
def LX8_wordHere_8  (k61 : Int32 → Int32 → tm_S → Option (Int32 × tm_S)) : Nat → Int32 → Int32 → tm_S → Option (Int32 × tm_S)
  | 0, _, _, _ => none
  | n + 1, v4, v5, S6 =>
    (fX8_byteAt ((S6 0 4) + v5) S6).bind fun r8 =>
    if (fX8_isSmall r8) = (0 : Int32) then
    (k61 v4 v5 S6)
    else
    (so_j (κ := Int32 → Option (Int32 × tm_S)) (ρ := Option (Int32 × tm_S)) (fun (v10 : Int32) =>
    LX8_wordHere_8 k61 n v10 (v5 + (1 : Int32)) S6)
    (fun J11 =>
    if (6 : Int32) ≤ v5 then
    (J11 v4)
    else
    ((fX8_byteAt ((S6 0 4) + v5) S6).bind fun r14 =>
    J11 (((((27 : Int32) * v4) + r14) - (97 : Int32)) + (1 : Int32)))))
set_option maxHeartbeats 4000000 in
set_option maxRecDepth 100000 in
theorem wX8_wordHere_8 {res : Int32} {sg' : tm_S} {S0 : so_St} {sg0 : tm_S}    (hT : tm_Sh S0)   (k61 : Int32 → Int32 → tm_S → Option (Int32 × tm_S)) (h61 : ∀ (v15 : Int32) (v16 : Int32) (S17 : tm_S), k61 v15 v16 S17 = some (res, sg') → jg_ (tm_j S0 sg0, tm_j S0 sg', .inl (some (.int res))) kX8_wordHere 61 [(1, .int v15), (2, .int v16)] [] (tm_j S0 S17)) : ∀ (n : Nat) (v4 : Int32) (v5 : Int32) (S6 : tm_S), LX8_wordHere_8 k61 n v4 v5 S6 = some (res, sg') → jg_ (tm_j S0 sg0, tm_j S0 sg', .inl (some (.int res))) kX8_wordHere 8 [(0, .ref (tm_a 0)), (1, .int v4), (2, .int v5)] [] (tm_j S0 S6) := by
  intro n
  induction n with
  | zero =>
    intro v4 v5 S6 hf
    exact so_no hf
  | succ n ih =>
    intro v4 v5 S6 hf
    rw [LX8_wordHere_8] at hf
    refine jr_aload_n dX8_wordHere_8 rfl rfl jv_rr ?_
    refine jr_aload_n dX8_wordHere_9 rfl rfl jv_rr ?_
    refine tr_getI fl_X8_115_23 dX8_wordHere_10 ?_
    refine jr_iload_n dX8_wordHere_13 rfl rfl ?_
    refine jr_iadd dX8_wordHere_14 ?_
    obtain ⟨r8, h7, hf⟩ := so_b hf
    refine jr_callM (st := []) lk_X8_118_23 (wX8_byteAt ((S6 0 4) + v5) hT S6 h7) tm_k23 rfl rfl rfl (so_le rfl) (so_le rfl) dX8_wordHere_15 ?_
    refine jr_call (st := []) lk_X8_144 (wX8_isSmall r8 hT S6 rfl) jk_r0 rfl rfl (so_le rfl) (so_le rfl) dX8_wordHere_18 ?_
    refine jr_if_eq (tgt := 61) dX8_wordHere_21 rfl (fun c9 => ?_) (fun c9 => ?_)
    · have hf := so_t c9 hf
      refine jr_sub [1, 2] rfl ?_
      exact h61 v4 v5 S6 hf
    · have hf := so_f c9 hf
      refine jr_iload_n dX8_wordHere_24 rfl rfl ?_
      refine jr_bipush dX8_wordHere_25 bp_6 ?_
      refine so_jE hf (fun J => ∀ (v10 : Int32), J v10 = some (res, sg') → jg_ (tm_j S0 sg0, tm_j S0 sg', .inl (some (.int res))) kX8_wordHere 54 [(0, .ref (tm_a 0)), (2, .int v5)] [.int v10] (tm_j S0 S6)) (fun v10 hf => ?_) (fun J11 hJ11 hf => ?_)
      · refine jr_istore_n (lv' := [(0, .ref (tm_a 0)), (1, .int v10), (2, .int v5)]) dX8_wordHere_54 rfl (so_le rfl) rfl ?_
        refine jr_iinc (v := v5 + (1 : Int32)) (lv' := [(0, .ref (tm_a 0)), (1, .int v10), (2, .int (v5 + (1 : Int32)))]) dX8_wordHere_55 rfl rfl (so_le rfl) rfl ?_
        refine jr_goto (tgt := 8) dX8_wordHere_58 rfl ?_
        exact ih v10 (v5 + (1 : Int32)) S6 hf
      · refine jr_icmp_ge (tgt := 53) dX8_wordHere_27 rfl (fun c12 => ?_) (fun c12 => ?_)
        · have hf := so_t c12 hf
          refine jr_iload_n dX8_wordHere_53 rfl rfl ?_
          refine jr_sub [0, 2] rfl ?_
          exact hJ11 v4 hf
        · have hf := so_f c12 hf
          refine jr_bipush dX8_wordHere_30 bp_27 ?_
          refine jr_iload_n dX8_wordHere_32 rfl rfl ?_
          refine jr_imul dX8_wordHere_33 ?_
          refine jr_aload_n dX8_wordHere_34 rfl rfl jv_rr ?_
          refine jr_aload_n dX8_wordHere_35 rfl rfl jv_rr ?_
          refine tr_getI fl_X8_115_23 dX8_wordHere_36 ?_
          refine jr_iload_n dX8_wordHere_39 rfl rfl ?_
          refine jr_iadd dX8_wordHere_40 ?_
          obtain ⟨r14, h13, hf⟩ := so_b hf
          refine jr_callM (st := [.int ((27 : Int32) * v4)]) lk_X8_118_23 (wX8_byteAt ((S6 0 4) + v5) hT S6 h13) tm_k23 rfl rfl rfl (so_le rfl) (so_le rfl) dX8_wordHere_41 ?_
          refine jr_iadd dX8_wordHere_44 ?_
          refine jr_bipush dX8_wordHere_45 bp_97 ?_
          refine jr_isub dX8_wordHere_47 ?_
          refine jr_iconst dX8_wordHere_48 ic_1 ?_
          refine jr_iadd dX8_wordHere_49 ?_
          refine jr_goto (tgt := 54) dX8_wordHere_50 rfl ?_
          refine jr_sub [0, 2] rfl ?_
          exact hJ11 (((((27 : Int32) * v4) + r14) - (97 : Int32)) + (1 : Int32)) hf
def fX8_wordHere  (sg : tm_S) : Option (Int32 × tm_S) :=
  (fX8_blanks sg).bind fun S3 =>
  LX8_wordHere_8 (fun (v18 : Int32) (v19 : Int32) (S20 : tm_S) =>
  if v19 ≤ (6 : Int32) then
  (some (v18, S20))
  else
  (some ((-1 : Int32), S20))) so_N (0 : Int32) (0 : Int32) S3
set_option maxHeartbeats 4000000 in
set_option maxRecDepth 100000 in
theorem wX8_wordHere {res : Int32} {sg' : tm_S} {S0 : so_St}   (hT : tm_Sh S0) (sg : tm_S)  (hf : fX8_wordHere sg = some (res, sg')) : jx_Sp 2 yX8_wordHere (ws_ yX8_wordHere cX8_wordHere 3 (Option.some Jvm.ClassFile.FieldType.int)) [.ref (tm_a 0)] (tm_j S0 sg) (.inl (some (.int res))) (tm_j S0 sg') := by
  refine jx_of (plainFor_of_name (by decide)) (so_le rfl) ?_
  show jg_ ((tm_j S0 sg), (tm_j S0 sg'), .inl (some (.int res))) kX8_wordHere 0 [(0, .ref (tm_a 0))] [] (tm_j S0 sg)
  unfold fX8_wordHere at hf
  refine jr_aload_n dX8_wordHere_0 rfl rfl jv_rr ?_
  obtain ⟨S3, h1, hf⟩ := so_b hf
  refine jr_callM (st := []) lk_X8_128_23 (wX8_blanks hT sg h1) tm_k23 rfl rfl rfl (so_le rfl) (so_le rfl) dX8_wordHere_1 ?_
  refine jr_iconst dX8_wordHere_4 ic_0 ?_
  refine jr_istore_n (lv' := [(0, .ref (tm_a 0)), (1, .int (0 : Int32))]) dX8_wordHere_5 rfl (so_le rfl) rfl ?_
  refine jr_iconst dX8_wordHere_6 ic_0 ?_
  refine jr_istore_n (lv' := [(0, .ref (tm_a 0)), (1, .int (0 : Int32)), (2, .int (0 : Int32))]) dX8_wordHere_7 rfl (so_le rfl) rfl ?_
  refine wX8_wordHere_8 hT _ (fun v18 v19 S20 hf => ?_) so_N (0 : Int32) (0 : Int32) S3 hf
  refine jr_iload_n dX8_wordHere_61 rfl rfl ?_
  refine jr_bipush dX8_wordHere_62 bp_6 ?_
  refine jr_icmp_le (tgt := 71) dX8_wordHere_64 rfl (fun c21 => ?_) (fun c21 => ?_)
  · have hf := so_t c21 hf
    refine jr_iload_n dX8_wordHere_71 rfl rfl ?_
    obtain ⟨rfl, rfl⟩ := so_e2 hf
    exact jr_iret rfl rfl dX8_wordHere_72
  · have hf := so_f c21 hf
    refine jr_iconst dX8_wordHere_67 ic_m1 ?_
    refine jr_goto (tgt := 72) dX8_wordHere_68 rfl ?_
    obtain ⟨rfl, rfl⟩ := so_e2 hf
    exact jr_iret rfl rfl dX8_wordHere_72

/- X8_six -/
abbrev kX8_six : jx_K := (cX8_six, 7, RX8, 0, (Option.some Jvm.ClassFile.FieldType.int), "six", [])
def fX8_six (a0 : Int32) (a1 : Int32) (a2 : Int32) (a3 : Int32) (a4 : Int32) (a5 : Int32) : Int32 :=
  so_j (κ := Int32 → Int32) (ρ := Int32) (fun (v1 : Int32) =>
  so_j (κ := Int32 → Int32) (ρ := Int32) (fun (v3 : Int32) =>
  if a5 = (0 : Int32) then
  (v3)
  else
  ((((27 : Int32) * v3) + a5)))
  (fun J4 =>
  if a4 = (0 : Int32) then
  (J4 v1)
  else
  (J4 (((27 : Int32) * v1) + a4))))
  (fun J2 =>
  if a3 = (0 : Int32) then
  (J2 (((27 : Int32) * (((27 : Int32) * a0) + a1)) + a2))
  else
  (J2 (((27 : Int32) * (((27 : Int32) * (((27 : Int32) * a0) + a1)) + a2)) + a3)))
set_option maxHeartbeats 4000000 in
set_option maxRecDepth 100000 in
theorem wX8_six {res : Int32} {S0 : so_St}  (a0 : Int32) (a1 : Int32) (a2 : Int32) (a3 : Int32) (a4 : Int32) (a5 : Int32) (hT : tm_Sh S0) (sg : tm_S)  (hf : fX8_six a0 a1 a2 a3 a4 a5 = res) : jx_Sp 0 yX8_six (ws_ yX8_six cX8_six 7 (Option.some Jvm.ClassFile.FieldType.int)) [.int a0, .int a1, .int a2, .int a3, .int a4, .int a5] (tm_j S0 sg) (.inl (some (.int res))) (tm_j S0 sg) := by
  refine jx_of (plainFor_of_name (by decide)) (so_le rfl) ?_
  show jg_ ((tm_j S0 sg), (tm_j S0 sg), .inl (some (.int res))) kX8_six 0 [(0, .int a0), (1, .int a1), (2, .int a2), (3, .int a3), (4, .int a4), (5, .int a5)] [] (tm_j S0 sg)
  unfold fX8_six at hf
  refine jr_bipush dX8_six_0 bp_27 ?_
  refine jr_bipush dX8_six_2 bp_27 ?_
  refine jr_iload_n dX8_six_4 rfl rfl ?_
  refine jr_imul dX8_six_5 ?_
  refine jr_iload_n dX8_six_6 rfl rfl ?_
  refine jr_iadd dX8_six_7 ?_
  refine jr_imul dX8_six_8 ?_
  refine jr_iload_n dX8_six_9 rfl rfl ?_
  refine jr_iadd dX8_six_10 ?_
  refine jr_istore (lv' := [(0, .int a0), (1, .int a1), (2, .int a2), (3, .int a3), (4, .int a4), (5, .int a5), (6, .int (((27 : Int32) * (((27 : Int32) * a0) + a1)) + a2))]) dX8_six_11 (so_le rfl) rfl ?_
  refine jr_iload_n dX8_six_13 rfl rfl ?_
  refine so_jE hf (fun J => ∀ (v1 : Int32), J v1 = res → jg_ (tm_j S0 sg, tm_j S0 sg, .inl (some (.int res))) kX8_six 29 [(4, .int a4), (5, .int a5)] [.int v1] (tm_j S0 sg)) (fun v1 hf => ?_) (fun J2 hJ2 hf => ?_)
  · refine jr_istore (lv' := [(4, .int a4), (5, .int a5), (6, .int v1)]) dX8_six_29 (so_le rfl) rfl ?_
    refine jr_iload dX8_six_31 rfl ?_
    refine so_jE hf (fun J => ∀ (v3 : Int32), J v3 = res → jg_ (tm_j S0 sg, tm_j S0 sg, .inl (some (.int res))) kX8_six 49 [(5, .int a5)] [.int v3] (tm_j S0 sg)) (fun v3 hf => ?_) (fun J4 hJ4 hf => ?_)
    · refine jr_istore (lv' := [(5, .int a5), (6, .int v3)]) dX8_six_49 (so_le rfl) rfl ?_
      refine jr_iload dX8_six_51 rfl ?_
      refine jr_if_ne (tgt := 61) dX8_six_53 rfl (fun c5 => ?_) (fun c5 => ?_)
      · have hf := so_f c5 hf
        refine jr_bipush dX8_six_61 bp_27 ?_
        refine jr_iload dX8_six_63 rfl ?_
        refine jr_imul dX8_six_65 ?_
        refine jr_iload dX8_six_66 rfl ?_
        refine jr_iadd dX8_six_68 ?_
        obtain rfl := hf
        exact jr_iret rfl rfl dX8_six_69
      · have hf := so_t c5 hf
        refine jr_iload dX8_six_56 rfl ?_
        refine jr_goto (tgt := 69) dX8_six_58 rfl ?_
        obtain rfl := hf
        exact jr_iret rfl rfl dX8_six_69
    · refine jr_if_ne (tgt := 41) dX8_six_33 rfl (fun c6 => ?_) (fun c6 => ?_)
      · have hf := so_f c6 hf
        refine jr_bipush dX8_six_41 bp_27 ?_
        refine jr_iload dX8_six_43 rfl ?_
        refine jr_imul dX8_six_45 ?_
        refine jr_iload dX8_six_46 rfl ?_
        refine jr_iadd dX8_six_48 ?_
        refine jr_sub [1] rfl ?_
        exact hJ4 (((27 : Int32) * v1) + a4) hf
      · have hf := so_t c6 hf
        refine jr_iload dX8_six_36 rfl ?_
        refine jr_goto (tgt := 49) dX8_six_38 rfl ?_
        refine jr_sub [1] rfl ?_
        exact hJ4 v1 hf
  · refine jr_if_ne (tgt := 22) dX8_six_14 rfl (fun c7 => ?_) (fun c7 => ?_)
    · have hf := so_f c7 hf
      refine jr_bipush dX8_six_22 bp_27 ?_
      refine jr_iload dX8_six_24 rfl ?_
      refine jr_imul dX8_six_26 ?_
      refine jr_iload_n dX8_six_27 rfl rfl ?_
      refine jr_iadd dX8_six_28 ?_
      refine jr_sub [4, 5] rfl ?_
      exact hJ2 (((27 : Int32) * (((27 : Int32) * (((27 : Int32) * a0) + a1)) + a2)) + a3) hf
    · have hf := so_t c7 hf
      refine jr_iload dX8_six_17 rfl ?_
      refine jr_goto (tgt := 29) dX8_six_19 rfl ?_
      refine jr_sub [4, 5] rfl ?_
      exact hJ2 (((27 : Int32) * (((27 : Int32) * a0) + a1)) + a2) hf

/- X8_isWord -/
abbrev kX8_isWord : jx_K := (cX8_isWord, 7, RX8, 3, (Option.some Jvm.ClassFile.FieldType.boolean), "isWord", [])
def fX8_isWord (a1 : Int32) (a2 : Int32) (a3 : Int32) (a4 : Int32) (a5 : Int32) (a6 : Int32) (sg : tm_S) : Option (Int32 × tm_S) :=
  if (sg 0 5) = (0 : Int32) then
  (tm_b2 (fX8_wordHere sg) fun r3 S4 =>
  if r3 = (fX8_six a1 a2 a3 a4 a5 a6) then
  (some ((1 : Int32), S4))
  else
  (some ((0 : Int32), S4)))
  else
  (some ((0 : Int32), sg))
set_option maxHeartbeats 4000000 in
set_option maxRecDepth 100000 in
theorem wX8_isWord {res : Int32} {sg' : tm_S} {S0 : so_St}  (a1 : Int32) (a2 : Int32) (a3 : Int32) (a4 : Int32) (a5 : Int32) (a6 : Int32) (hT : tm_Sh S0) (sg : tm_S)  (hf : fX8_isWord a1 a2 a3 a4 a5 a6 sg = some (res, sg')) : jx_Sp 3 yX8_isWord (ws_ yX8_isWord cX8_isWord 7 (Option.some Jvm.ClassFile.FieldType.boolean)) [.ref (tm_a 0), .int a1, .int a2, .int a3, .int a4, .int a5, .int a6] (tm_j S0 sg) (.inl (some (.int res))) (tm_j S0 sg') := by
  refine jx_of (plainFor_of_name (by decide)) (so_le rfl) ?_
  show jg_ ((tm_j S0 sg), (tm_j S0 sg'), .inl (some (.int res))) kX8_isWord 0 [(0, .ref (tm_a 0)), (1, .int a1), (2, .int a2), (3, .int a3), (4, .int a4), (5, .int a5), (6, .int a6)] [] (tm_j S0 sg)
  unfold fX8_isWord at hf
  refine jr_aload_n dX8_isWord_0 rfl rfl jv_rr ?_
  refine tr_getI fl_X8_122_23 dX8_isWord_1 ?_
  refine jr_if_ne (tgt := 30) dX8_isWord_4 rfl (fun c1 => ?_) (fun c1 => ?_)
  · have hf := so_f c1 hf
    refine jr_iconst dX8_isWord_30 ic_0 ?_
    obtain ⟨rfl, rfl⟩ := so_e2 hf
    exact jr_iret rfl rfl dX8_isWord_31
  · have hf := so_t c1 hf
    refine jr_aload_n dX8_isWord_7 rfl rfl jv_rr ?_
    obtain ⟨r3, S4, h2, hf⟩ := tm_b2E hf
    refine jr_callM (st := []) lk_X8_147_23 (wX8_wordHere hT sg h2) tm_k23 rfl rfl rfl (so_le rfl) (so_le rfl) dX8_isWord_8 ?_
    refine jr_iload_n dX8_isWord_11 rfl rfl ?_
    refine jr_iload_n dX8_isWord_12 rfl rfl ?_
    refine jr_iload_n dX8_isWord_13 rfl rfl ?_
    refine jr_iload dX8_isWord_14 rfl ?_
    refine jr_iload dX8_isWord_16 rfl ?_
    refine jr_iload dX8_isWord_18 rfl ?_
    refine jr_call (st := [.int r3]) lk_X8_151 (wX8_six a1 a2 a3 a4 a5 a6 hT S4 rfl) jk_r0 rfl rfl (so_le rfl) (so_le rfl) dX8_isWord_20 ?_
    refine jr_icmp_ne (tgt := 30) dX8_isWord_23 rfl (fun c5 => ?_) (fun c5 => ?_)
    · have hf := so_f c5 hf
      refine jr_iconst dX8_isWord_30 ic_0 ?_
      obtain ⟨rfl, rfl⟩ := so_e2 hf
      exact jr_iret rfl rfl dX8_isWord_31
    · have hf := so_t c5 hf
      refine jr_iconst dX8_isWord_26 ic_1 ?_
      refine jr_goto (tgt := 31) dX8_isWord_27 rfl ?_
      obtain ⟨rfl, rfl⟩ := so_e2 hf
      exact jr_iret rfl rfl dX8_isWord_31

/- X8_kindHere -/
abbrev kX8_kindHere : jx_K := (cX8_kindHere, 1, RX8, 4, (Option.some Jvm.ClassFile.FieldType.int), "kindHere", [])
def fX8_kindHere  (sg : tm_S) : Option (Int32 × tm_S) :=
  tm_b2 (fX8_isWord (8 : Int32) (15 : Int32) (21 : Int32) (19 : Int32) (5 : Int32) (0 : Int32) sg) fun r2 S3 =>
  if r2 = (0 : Int32) then
  (tm_b2 (fX8_isWord (23 : Int32) (1 : Int32) (12 : Int32) (12 : Int32) (0 : Int32) (0 : Int32) S3) fun r6 S7 =>
  if r6 = (0 : Int32) then
  (tm_b2 (fX8_isWord (16 : Int32) (9 : Int32) (1 : Int32) (14 : Int32) (15 : Int32) (0 : Int32) S7) fun r10 S11 =>
  if r10 = (0 : Int32) then
  (tm_b2 (fX8_isWord (6 : Int32) (5 : Int32) (12 : Int32) (20 : Int32) (0 : Int32) (0 : Int32) S11) fun r14 S15 =>
  if r14 = (0 : Int32) then
  (tm_b2 (fX8_isWord (23 : Int32) (9 : Int32) (19 : Int32) (8 : Int32) (0 : Int32) (0 : Int32) S15) fun r18 S19 =>
  if r18 = (0 : Int32) then
  (some ((-1 : Int32), S19))
  else
  (some ((4 : Int32), S19)))
  else
  (some ((3 : Int32), S15)))
  else
  (some ((2 : Int32), S11)))
  else
  (some ((1 : Int32), S7)))
  else
  (some ((0 : Int32), S3))
set_option maxHeartbeats 4000000 in
set_option maxRecDepth 100000 in
theorem wX8_kindHere {res : Int32} {sg' : tm_S} {S0 : so_St}   (hT : tm_Sh S0) (sg : tm_S)  (hf : fX8_kindHere sg = some (res, sg')) : jx_Sp 4 yX8_kindHere (ws_ yX8_kindHere cX8_kindHere 1 (Option.some Jvm.ClassFile.FieldType.int)) [.ref (tm_a 0)] (tm_j S0 sg) (.inl (some (.int res))) (tm_j S0 sg') := by
  refine jx_of (plainFor_of_name (by decide)) (so_le rfl) ?_
  show jg_ ((tm_j S0 sg), (tm_j S0 sg'), .inl (some (.int res))) kX8_kindHere 0 [(0, .ref (tm_a 0))] [] (tm_j S0 sg)
  unfold fX8_kindHere at hf
  refine jr_aload_n dX8_kindHere_0 rfl rfl jv_rr ?_
  refine jr_bipush dX8_kindHere_1 bp_8 ?_
  refine jr_bipush dX8_kindHere_3 bp_15 ?_
  refine jr_bipush dX8_kindHere_5 bp_21 ?_
  refine jr_bipush dX8_kindHere_7 bp_19 ?_
  refine jr_iconst dX8_kindHere_9 ic_5 ?_
  refine jr_iconst dX8_kindHere_10 ic_0 ?_
  obtain ⟨r2, S3, h1, hf⟩ := tm_b2E hf
  refine jr_callM (st := []) lk_X8_155_23 (wX8_isWord (8 : Int32) (15 : Int32) (21 : Int32) (19 : Int32) (5 : Int32) (0 : Int32) hT sg h1) tm_k23 rfl rfl rfl (so_le rfl) (so_le rfl) dX8_kindHere_11 ?_
  refine jr_if_eq (tgt := 19) dX8_kindHere_14 rfl (fun c4 => ?_) (fun c4 => ?_)
  · have hf := so_t c4 hf
    refine jr_aload_n dX8_kindHere_19 rfl rfl jv_rr ?_
    refine jr_bipush dX8_kindHere_20 bp_23 ?_
    refine jr_iconst dX8_kindHere_22 ic_1 ?_
    refine jr_bipush dX8_kindHere_23 bp_12 ?_
    refine jr_bipush dX8_kindHere_25 bp_12 ?_
    refine jr_iconst dX8_kindHere_27 ic_0 ?_
    refine jr_iconst dX8_kindHere_28 ic_0 ?_
    obtain ⟨r6, S7, h5, hf⟩ := tm_b2E hf
    refine jr_callM (st := []) lk_X8_155_23 (wX8_isWord (23 : Int32) (1 : Int32) (12 : Int32) (12 : Int32) (0 : Int32) (0 : Int32) hT S3 h5) tm_k23 rfl rfl rfl (so_le rfl) (so_le rfl) dX8_kindHere_29 ?_
    refine jr_if_eq (tgt := 37) dX8_kindHere_32 rfl (fun c8 => ?_) (fun c8 => ?_)
    · have hf := so_t c8 hf
      refine jr_aload_n dX8_kindHere_37 rfl rfl jv_rr ?_
      refine jr_bipush dX8_kindHere_38 bp_16 ?_
      refine jr_bipush dX8_kindHere_40 bp_9 ?_
      refine jr_iconst dX8_kindHere_42 ic_1 ?_
      refine jr_bipush dX8_kindHere_43 bp_14 ?_
      refine jr_bipush dX8_kindHere_45 bp_15 ?_
      refine jr_iconst dX8_kindHere_47 ic_0 ?_
      obtain ⟨r10, S11, h9, hf⟩ := tm_b2E hf
      refine jr_callM (st := []) lk_X8_155_23 (wX8_isWord (16 : Int32) (9 : Int32) (1 : Int32) (14 : Int32) (15 : Int32) (0 : Int32) hT S7 h9) tm_k23 rfl rfl rfl (so_le rfl) (so_le rfl) dX8_kindHere_48 ?_
      refine jr_if_eq (tgt := 56) dX8_kindHere_51 rfl (fun c12 => ?_) (fun c12 => ?_)
      · have hf := so_t c12 hf
        refine jr_aload_n dX8_kindHere_56 rfl rfl jv_rr ?_
        refine jr_bipush dX8_kindHere_57 bp_6 ?_
        refine jr_iconst dX8_kindHere_59 ic_5 ?_
        refine jr_bipush dX8_kindHere_60 bp_12 ?_
        refine jr_bipush dX8_kindHere_62 bp_20 ?_
        refine jr_iconst dX8_kindHere_64 ic_0 ?_
        refine jr_iconst dX8_kindHere_65 ic_0 ?_
        obtain ⟨r14, S15, h13, hf⟩ := tm_b2E hf
        refine jr_callM (st := []) lk_X8_155_23 (wX8_isWord (6 : Int32) (5 : Int32) (12 : Int32) (20 : Int32) (0 : Int32) (0 : Int32) hT S11 h13) tm_k23 rfl rfl rfl (so_le rfl) (so_le rfl) dX8_kindHere_66 ?_
        refine jr_if_eq (tgt := 74) dX8_kindHere_69 rfl (fun c16 => ?_) (fun c16 => ?_)
        · have hf := so_t c16 hf
          refine jr_aload_n dX8_kindHere_74 rfl rfl jv_rr ?_
          refine jr_bipush dX8_kindHere_75 bp_23 ?_
          refine jr_bipush dX8_kindHere_77 bp_9 ?_
          refine jr_bipush dX8_kindHere_79 bp_19 ?_
          refine jr_bipush dX8_kindHere_81 bp_8 ?_
          refine jr_iconst dX8_kindHere_83 ic_0 ?_
          refine jr_iconst dX8_kindHere_84 ic_0 ?_
          obtain ⟨r18, S19, h17, hf⟩ := tm_b2E hf
          refine jr_callM (st := []) lk_X8_155_23 (wX8_isWord (23 : Int32) (9 : Int32) (19 : Int32) (8 : Int32) (0 : Int32) (0 : Int32) hT S15 h17) tm_k23 rfl rfl rfl (so_le rfl) (so_le rfl) dX8_kindHere_85 ?_
          refine jr_if_eq (tgt := 95) dX8_kindHere_88 rfl (fun c20 => ?_) (fun c20 => ?_)
          · have hf := so_t c20 hf
            refine jr_iconst dX8_kindHere_95 ic_m1 ?_
            obtain ⟨rfl, rfl⟩ := so_e2 hf
            exact jr_iret rfl rfl dX8_kindHere_96
          · have hf := so_f c20 hf
            refine jr_iconst dX8_kindHere_91 ic_4 ?_
            refine jr_goto (tgt := 96) dX8_kindHere_92 rfl ?_
            obtain ⟨rfl, rfl⟩ := so_e2 hf
            exact jr_iret rfl rfl dX8_kindHere_96
        · have hf := so_f c16 hf
          refine jr_iconst dX8_kindHere_72 ic_3 ?_
          obtain ⟨rfl, rfl⟩ := so_e2 hf
          exact jr_iret rfl rfl dX8_kindHere_73
      · have hf := so_f c12 hf
        refine jr_iconst dX8_kindHere_54 ic_2 ?_
        obtain ⟨rfl, rfl⟩ := so_e2 hf
        exact jr_iret rfl rfl dX8_kindHere_55
    · have hf := so_f c8 hf
      refine jr_iconst dX8_kindHere_35 ic_1 ?_
      obtain ⟨rfl, rfl⟩ := so_e2 hf
      exact jr_iret rfl rfl dX8_kindHere_36
  · have hf := so_f c4 hf
    refine jr_iconst dX8_kindHere_17 ic_0 ?_
    obtain ⟨rfl, rfl⟩ := so_e2 hf
    exact jr_iret rfl rfl dX8_kindHere_18

/- X8_wrong -/
abbrev kX8_wrong : jx_K := (cX8_wrong, 3, RX8, 0, (Option.none : Option Jvm.ClassFile.FieldType), "wrong", [])
def fX8_wrong (a1 : Int32) (a2 : Int32) (sg : tm_S) : Option tm_S :=
  if (sg 0 5) = (0 : Int32) then
  (tm_let (tm_up sg 0 5 a1) fun S2 =>
  tm_let (tm_up S2 0 6 a2) fun S3 =>
  some S3)
  else
  (some sg)
set_option maxHeartbeats 4000000 in
set_option maxRecDepth 100000 in
theorem wX8_wrong {sg' : tm_S} {S0 : so_St}  (a1 : Int32) (a2 : Int32) (hT : tm_Sh S0) (sg : tm_S)  (hf : fX8_wrong a1 a2 sg = some sg') : jx_Sp 0 yX8_wrong (ws_ yX8_wrong cX8_wrong 3 (Option.none : Option Jvm.ClassFile.FieldType)) [.ref (tm_a 0), .int a1, .int a2] (tm_j S0 sg) (.inl none) (tm_j S0 sg') := by
  refine jx_of (plainFor_of_name (by decide)) (so_le rfl) ?_
  show jg_ ((tm_j S0 sg), (tm_j S0 sg'), .inl none) kX8_wrong 0 [(0, .ref (tm_a 0)), (1, .int a1), (2, .int a2)] [] (tm_j S0 sg)
  unfold fX8_wrong at hf
  refine jr_aload_n dX8_wrong_0 rfl rfl jv_rr ?_
  refine tr_getI fl_X8_122_23 dX8_wrong_1 ?_
  refine jr_if_ne (tgt := 17) dX8_wrong_4 rfl (fun c1 => ?_) (fun c1 => ?_)
  · have hf := so_f c1 hf
    obtain rfl := so_e1 hf
    exact jr_vret rfl dX8_wrong_17
  · have hf := so_t c1 hf
    refine jr_aload_n dX8_wrong_7 rfl rfl jv_rr ?_
    refine jr_iload_n dX8_wrong_8 rfl rfl ?_
    refine tr_putI fp_X8_122_23 dX8_wrong_9 ?_
    refine tm_let_e hf (fun S2 hf => ?_)
    refine jr_aload_n dX8_wrong_12 rfl rfl jv_rr ?_
    refine jr_iload_n dX8_wrong_13 rfl rfl ?_
    refine tr_putI fp_X8_125_23 dX8_wrong_14 ?_
    refine tm_let_e hf (fun S3 hf => ?_)
    obtain rfl := so_e1 hf
    exact jr_vret rfl dX8_wrong_17

/- X8_skipWord -/
abbrev kX8_skipWord : jx_K := (cX8_skipWord, 1, RX8, 1, (Option.none : Option Jvm.ClassFile.FieldType), "skipWord", [])
def LX8_skipWord_0  : Nat → tm_S → Option tm_S
  | 0, _ => none
  | n + 1, S1 =>
    (fX8_byteAt (S1 0 4) S1).bind fun r3 =>
    if (fX8_isSmall r3) = (0 : Int32) then
    (some S1)
    else
    (tm_let (tm_up S1 0 4 ((S1 0 4) + (1 : Int32))) fun S5 =>
    LX8_skipWord_0 n S5)
set_option maxHeartbeats 4000000 in
set_option maxRecDepth 100000 in
theorem wX8_skipWord_0 {sg' : tm_S} {S0 : so_St} {sg0 : tm_S}    (hT : tm_Sh S0)   : ∀ (n : Nat) (S1 : tm_S), LX8_skipWord_0 n S1 = some sg' → jg_ (tm_j S0 sg0, tm_j S0 sg', .inl none) kX8_skipWord 0 [(0, .ref (tm_a 0))] [] (tm_j S0 S1) := by
  intro n
  induction n with
  | zero =>
    intro S1 hf
    exact so_no hf
  | succ n ih =>
    intro S1 hf
    rw [LX8_skipWord_0] at hf
    refine jr_aload_n dX8_skipWord_0 rfl rfl jv_rr ?_
    refine jr_aload_n dX8_skipWord_1 rfl rfl jv_rr ?_
    refine tr_getI fl_X8_115_23 dX8_skipWord_2 ?_
    obtain ⟨r3, h2, hf⟩ := so_b hf
    refine jr_callM (st := []) lk_X8_118_23 (wX8_byteAt (S1 0 4) hT S1 h2) tm_k23 rfl rfl rfl (so_le rfl) (so_le rfl) dX8_skipWord_5 ?_
    refine jr_call (st := []) lk_X8_144 (wX8_isSmall r3 hT S1 rfl) jk_r0 rfl rfl (so_le rfl) (so_le rfl) dX8_skipWord_8 ?_
    refine jr_if_eq (tgt := 27) dX8_skipWord_11 rfl (fun c4 => ?_) (fun c4 => ?_)
    · have hf := so_t c4 hf
      obtain rfl := so_e1 hf
      exact jr_vret rfl dX8_skipWord_27
    · have hf := so_f c4 hf
      refine jr_aload_n dX8_skipWord_14 rfl rfl jv_rr ?_
      refine jr_dup dX8_skipWord_15 rfl ?_
      refine tr_getI fl_X8_115_23 dX8_skipWord_16 ?_
      refine jr_iconst dX8_skipWord_19 ic_1 ?_
      refine jr_iadd dX8_skipWord_20 ?_
      refine tr_putI fp_X8_115_23 dX8_skipWord_21 ?_
      refine tm_let_e hf (fun S5 hf => ?_)
      refine jr_goto (tgt := 0) dX8_skipWord_24 rfl ?_
      exact ih S5 hf
def fX8_skipWord  (sg : tm_S) : Option tm_S :=
  LX8_skipWord_0 so_N sg
set_option maxHeartbeats 4000000 in
set_option maxRecDepth 100000 in
theorem wX8_skipWord {sg' : tm_S} {S0 : so_St}   (hT : tm_Sh S0) (sg : tm_S)  (hf : fX8_skipWord sg = some sg') : jx_Sp 1 yX8_skipWord (ws_ yX8_skipWord cX8_skipWord 1 (Option.none : Option Jvm.ClassFile.FieldType)) [.ref (tm_a 0)] (tm_j S0 sg) (.inl none) (tm_j S0 sg') := by
  refine jx_of (plainFor_of_name (by decide)) (so_le rfl) ?_
  show jg_ ((tm_j S0 sg), (tm_j S0 sg'), .inl none) kX8_skipWord 0 [(0, .ref (tm_a 0))] [] (tm_j S0 sg)
  unfold fX8_skipWord at hf
  refine wX8_skipWord_0 hT so_N sg hf

/- X8_isDigit -/
abbrev kX8_isDigit : jx_K := (cX8_isDigit, 1, RX8, 0, (Option.some Jvm.ClassFile.FieldType.boolean), "isDigit", [])
def fX8_isDigit (a0 : Int32) : Int32 :=
  if a0 < (48 : Int32) then
  ((0 : Int32))
  else
  (if (57 : Int32) < a0 then
  ((0 : Int32))
  else
  ((1 : Int32)))
set_option maxHeartbeats 4000000 in
set_option maxRecDepth 100000 in
theorem wX8_isDigit {res : Int32} {S0 : so_St}  (a0 : Int32) (hT : tm_Sh S0) (sg : tm_S)  (hf : fX8_isDigit a0 = res) : jx_Sp 0 yX8_isDigit (ws_ yX8_isDigit cX8_isDigit 1 (Option.some Jvm.ClassFile.FieldType.boolean)) [.int a0] (tm_j S0 sg) (.inl (some (.int res))) (tm_j S0 sg) := by
  refine jx_of (plainFor_of_name (by decide)) (so_le rfl) ?_
  show jg_ ((tm_j S0 sg), (tm_j S0 sg), .inl (some (.int res))) kX8_isDigit 0 [(0, .int a0)] [] (tm_j S0 sg)
  unfold fX8_isDigit at hf
  refine jr_iload_n dX8_isDigit_0 rfl rfl ?_
  refine jr_bipush dX8_isDigit_1 bp_48 ?_
  refine jr_icmp_lt (tgt := 16) dX8_isDigit_3 rfl (fun c1 => ?_) (fun c1 => ?_)
  · have hf := so_t c1 hf
    refine jr_iconst dX8_isDigit_16 ic_0 ?_
    obtain rfl := hf
    exact jr_iret rfl rfl dX8_isDigit_17
  · have hf := so_f c1 hf
    refine jr_iload_n dX8_isDigit_6 rfl rfl ?_
    refine jr_bipush dX8_isDigit_7 bp_57 ?_
    refine jr_icmp_gt (tgt := 16) dX8_isDigit_9 rfl (fun c2 => ?_) (fun c2 => ?_)
    · have hf := so_t c2 hf
      refine jr_iconst dX8_isDigit_16 ic_0 ?_
      obtain rfl := hf
      exact jr_iret rfl rfl dX8_isDigit_17
    · have hf := so_f c2 hf
      refine jr_iconst dX8_isDigit_12 ic_1 ?_
      refine jr_goto (tgt := 17) dX8_isDigit_13 rfl ?_
      obtain rfl := hf
      exact jr_iret rfl rfl dX8_isDigit_17

/- X8_number -/
abbrev kX8_number : jx_K := (cX8_number, 5, RX8, 2, (Option.some Jvm.ClassFile.FieldType.int), "number", [])
def LX8_number_44 (f1 : Int32) (f2 : Int32) (f3 : Int32) (k106 : Int32 → tm_S → Option (Int32 × tm_S)) : Nat → Int32 → tm_S → Option (Int32 × tm_S)
  | 0, _, _ => none
  | n + 1, v9, S10 =>
    (fX8_byteAt (S10 0 4) S10).bind fun r12 =>
    if (fX8_isDigit r12) = (0 : Int32) then
    (k106 v9 S10)
    else
    ((fX8_byteAt (S10 0 4) S10).bind fun r15 =>
    so_j (κ := Int32 → Option (Int32 × tm_S)) (ρ := Option (Int32 × tm_S)) (fun (v16 : Int32) =>
    tm_let (tm_up S10 0 4 ((S10 0 4) + (1 : Int32))) fun S18 =>
    LX8_number_44 f1 f2 f3 k106 n v16 S18)
    (fun J17 =>
    if ((((10 : Int32) * v9) + r15) - (48 : Int32)) ≤ (100000 : Int32) then
    (J17 ((((10 : Int32) * v9) + r15) - (48 : Int32)))
    else
    (J17 (100000 : Int32))))
set_option maxHeartbeats 4000000 in
set_option maxRecDepth 100000 in
theorem wX8_number_44 {res : Int32} {sg' : tm_S} {S0 : so_St} {sg0 : tm_S}   (f1 : Int32) (f2 : Int32) (f3 : Int32) (hT : tm_Sh S0)   (k106 : Int32 → tm_S → Option (Int32 × tm_S)) (h106 : ∀ (v20 : Int32) (S21 : tm_S), k106 v20 S21 = some (res, sg') → jg_ (tm_j S0 sg0, tm_j S0 sg', .inl (some (.int res))) kX8_number 106 [(0, .ref (tm_a 0)), (1, .int f1), (2, .int f2), (3, .int f3), (4, .int v20)] [] (tm_j S0 S21)) : ∀ (n : Nat) (v9 : Int32) (S10 : tm_S), LX8_number_44 f1 f2 f3 k106 n v9 S10 = some (res, sg') → jg_ (tm_j S0 sg0, tm_j S0 sg', .inl (some (.int res))) kX8_number 44 [(0, .ref (tm_a 0)), (1, .int f1), (2, .int f2), (3, .int f3), (4, .int v9)] [] (tm_j S0 S10) := by
  intro n
  induction n with
  | zero =>
    intro v9 S10 hf
    exact so_no hf
  | succ n ih =>
    intro v9 S10 hf
    rw [LX8_number_44] at hf
    refine jr_aload_n dX8_number_44 rfl rfl jv_rr ?_
    refine jr_aload_n dX8_number_45 rfl rfl jv_rr ?_
    refine tr_getI fl_X8_115_23 dX8_number_46 ?_
    obtain ⟨r12, h11, hf⟩ := so_b hf
    refine jr_callM (st := []) lk_X8_118_23 (wX8_byteAt (S10 0 4) hT S10 h11) tm_k23 rfl rfl rfl (so_le rfl) (so_le rfl) dX8_number_49 ?_
    refine jr_call (st := []) lk_X8_131 (wX8_isDigit r12 hT S10 rfl) jk_r0 rfl rfl (so_le rfl) (so_le rfl) dX8_number_52 ?_
    refine jr_if_eq (tgt := 106) dX8_number_55 rfl (fun c13 => ?_) (fun c13 => ?_)
    · have hf := so_t c13 hf
      exact h106 v9 S10 hf
    · have hf := so_f c13 hf
      refine jr_bipush dX8_number_58 bp_10 ?_
      refine jr_iload dX8_number_60 rfl ?_
      refine jr_imul dX8_number_62 ?_
      refine jr_aload_n dX8_number_63 rfl rfl jv_rr ?_
      refine jr_aload_n dX8_number_64 rfl rfl jv_rr ?_
      refine tr_getI fl_X8_115_23 dX8_number_65 ?_
      obtain ⟨r15, h14, hf⟩ := so_b hf
      refine jr_callM (st := [.int ((10 : Int32) * v9)]) lk_X8_118_23 (wX8_byteAt (S10 0 4) hT S10 h14) tm_k23 rfl rfl rfl (so_le rfl) (so_le rfl) dX8_number_68 ?_
      refine jr_iadd dX8_number_71 ?_
      refine jr_bipush dX8_number_72 bp_48 ?_
      refine jr_isub dX8_number_74 ?_
      refine jr_istore (lv' := [(0, .ref (tm_a 0)), (1, .int f1), (2, .int f2), (3, .int f3), (4, .int ((((10 : Int32) * v9) + r15) - (48 : Int32)))]) dX8_number_75 (so_le rfl) rfl ?_
      refine jr_iload dX8_number_77 rfl ?_
      refine jr_ldcI q2176 dX8_number_79 ?_
      refine so_jE hf (fun J => ∀ (v16 : Int32), J v16 = some (res, sg') → jg_ (tm_j S0 sg0, tm_j S0 sg', .inl (some (.int res))) kX8_number 91 [(0, .ref (tm_a 0)), (1, .int f1), (2, .int f2), (3, .int f3)] [.int v16] (tm_j S0 S10)) (fun v16 hf => ?_) (fun J17 hJ17 hf => ?_)
      · refine jr_istore (lv' := [(0, .ref (tm_a 0)), (1, .int f1), (2, .int f2), (3, .int f3), (4, .int v16)]) dX8_number_91 (so_le rfl) rfl ?_
        refine jr_aload_n dX8_number_93 rfl rfl jv_rr ?_
        refine jr_dup dX8_number_94 rfl ?_
        refine tr_getI fl_X8_115_23 dX8_number_95 ?_
        refine jr_iconst dX8_number_98 ic_1 ?_
        refine jr_iadd dX8_number_99 ?_
        refine tr_putI fp_X8_115_23 dX8_number_100 ?_
        refine tm_let_e hf (fun S18 hf => ?_)
        refine jr_goto (tgt := 44) dX8_number_103 rfl ?_
        exact ih v16 S18 hf
      · refine jr_icmp_le (tgt := 89) dX8_number_81 rfl (fun c19 => ?_) (fun c19 => ?_)
        · have hf := so_t c19 hf
          refine jr_iload dX8_number_89 rfl ?_
          refine jr_sub [0, 1, 2, 3] rfl ?_
          exact hJ17 ((((10 : Int32) * v9) + r15) - (48 : Int32)) hf
        · have hf := so_f c19 hf
          refine jr_ldcI q2176 dX8_number_84 ?_
          refine jr_goto (tgt := 91) dX8_number_86 rfl ?_
          refine jr_sub [0, 1, 2, 3] rfl ?_
          exact hJ17 (100000 : Int32) hf
def fX8_number (a1 : Int32) (a2 : Int32) (sg : tm_S) : Option (Int32 × tm_S) :=
  if (sg 0 5) = (0 : Int32) then
  ((fX8_blanks sg).bind fun S4 =>
  (fX8_byteAt (S4 0 4) S4).bind fun r6 =>
  so_j (κ := tm_S → Option (Int32 × tm_S)) (ρ := Option (Int32 × tm_S)) (fun (S7 : tm_S) =>
  LX8_number_44 a1 a2 (S4 0 4) (fun (v22 : Int32) (S23 : tm_S) =>
  so_j (κ := tm_S → Option (Int32 × tm_S)) (ρ := Option (Int32 × tm_S)) (fun (S24 : tm_S) =>
  if (S24 0 5) = (0 : Int32) then
  (some (v22, S24))
  else
  (some ((0 : Int32), S24)))
  (fun J25 =>
  if (fX8_in v22 a1 a2) = (0 : Int32) then
  ((fX8_wrong (2 : Int32) (S4 0 4) S23).bind fun S30 =>
  J25 S30)
  else
  (J25 S23))) so_N (0 : Int32) S7)
  (fun J8 =>
  if (fX8_isDigit r6) = (0 : Int32) then
  ((fX8_wrong (1 : Int32) (S4 0 4) S4).bind fun S34 =>
  J8 S34)
  else
  (J8 S4)))
  else
  (some ((0 : Int32), sg))
set_option maxHeartbeats 4000000 in
set_option maxRecDepth 100000 in
theorem wX8_number {res : Int32} {sg' : tm_S} {S0 : so_St}  (a1 : Int32) (a2 : Int32) (hT : tm_Sh S0) (sg : tm_S)  (hf : fX8_number a1 a2 sg = some (res, sg')) : jx_Sp 2 yX8_number (ws_ yX8_number cX8_number 5 (Option.some Jvm.ClassFile.FieldType.int)) [.ref (tm_a 0), .int a1, .int a2] (tm_j S0 sg) (.inl (some (.int res))) (tm_j S0 sg') := by
  refine jx_of (plainFor_of_name (by decide)) (so_le rfl) ?_
  show jg_ ((tm_j S0 sg), (tm_j S0 sg'), .inl (some (.int res))) kX8_number 0 [(0, .ref (tm_a 0)), (1, .int a1), (2, .int a2)] [] (tm_j S0 sg)
  unfold fX8_number at hf
  refine jr_aload_n dX8_number_0 rfl rfl jv_rr ?_
  refine tr_getI fl_X8_122_23 dX8_number_1 ?_
  refine jr_if_eq (tgt := 9) dX8_number_4 rfl (fun c1 => ?_) (fun c1 => ?_)
  · have hf := so_t c1 hf
    refine jr_aload_n dX8_number_9 rfl rfl jv_rr ?_
    obtain ⟨S4, h2, hf⟩ := so_b hf
    refine jr_callM (st := []) lk_X8_128_23 (wX8_blanks hT sg h2) tm_k23 rfl rfl rfl (so_le rfl) (so_le rfl) dX8_number_10 ?_
    refine jr_aload_n dX8_number_13 rfl rfl jv_rr ?_
    refine tr_getI fl_X8_115_23 dX8_number_14 ?_
    refine jr_istore_n (lv' := [(0, .ref (tm_a 0)), (1, .int a1), (2, .int a2), (3, .int (S4 0 4))]) dX8_number_17 rfl (so_le rfl) rfl ?_
    refine jr_iconst dX8_number_18 ic_0 ?_
    refine jr_istore (lv' := [(0, .ref (tm_a 0)), (1, .int a1), (2, .int a2), (3, .int (S4 0 4)), (4, .int (0 : Int32))]) dX8_number_19 (so_le rfl) rfl ?_
    refine jr_aload_n dX8_number_21 rfl rfl jv_rr ?_
    refine jr_aload_n dX8_number_22 rfl rfl jv_rr ?_
    refine tr_getI fl_X8_115_23 dX8_number_23 ?_
    obtain ⟨r6, h5, hf⟩ := so_b hf
    refine jr_callM (st := []) lk_X8_118_23 (wX8_byteAt (S4 0 4) hT S4 h5) tm_k23 rfl rfl rfl (so_le rfl) (so_le rfl) dX8_number_26 ?_
    refine jr_call (st := []) lk_X8_131 (wX8_isDigit r6 hT S4 rfl) jk_r0 rfl rfl (so_le rfl) (so_le rfl) dX8_number_29 ?_
    refine so_jE hf (fun J => ∀ (S7 : tm_S), J S7 = some (res, sg') → jg_ (tm_j S0 sg, tm_j S0 sg', .inl (some (.int res))) kX8_number 44 [(0, .ref (tm_a 0)), (1, .int a1), (2, .int a2), (3, .int (S4 0 4)), (4, .int (0 : Int32))] [] (tm_j S0 S7)) (fun S7 hf => ?_) (fun J8 hJ8 hf => ?_)
    · refine wX8_number_44 a1 a2 (S4 0 4) hT _ (fun v22 S23 hf => ?_) so_N (0 : Int32) S7 hf
      refine jr_iload dX8_number_106 rfl ?_
      refine jr_iload_n dX8_number_108 rfl rfl ?_
      refine jr_iload_n dX8_number_109 rfl rfl ?_
      refine jr_call (st := []) lk_X8_140 (wX8_in v22 a1 a2 hT S23 rfl) jk_r0 rfl rfl (so_le rfl) (so_le rfl) dX8_number_110 ?_
      refine so_jE hf (fun J => ∀ (S24 : tm_S), J S24 = some (res, sg') → jg_ (tm_j S0 sg, tm_j S0 sg', .inl (some (.int res))) kX8_number 122 [(0, .ref (tm_a 0)), (4, .int v22)] [] (tm_j S0 S24)) (fun S24 hf => ?_) (fun J25 hJ25 hf => ?_)
      · refine jr_aload_n dX8_number_122 rfl rfl jv_rr ?_
        refine tr_getI fl_X8_122_23 dX8_number_123 ?_
        refine jr_if_ne (tgt := 134) dX8_number_126 rfl (fun c26 => ?_) (fun c26 => ?_)
        · have hf := so_f c26 hf
          refine jr_iconst dX8_number_134 ic_0 ?_
          obtain ⟨rfl, rfl⟩ := so_e2 hf
          exact jr_iret rfl rfl dX8_number_135
        · have hf := so_t c26 hf
          refine jr_iload dX8_number_129 rfl ?_
          refine jr_goto (tgt := 135) dX8_number_131 rfl ?_
          obtain ⟨rfl, rfl⟩ := so_e2 hf
          exact jr_iret rfl rfl dX8_number_135
      · refine jr_if_ne (tgt := 122) dX8_number_113 rfl (fun c27 => ?_) (fun c27 => ?_)
        · have hf := so_f c27 hf
          refine jr_sub [0, 4] rfl ?_
          exact hJ25 S23 hf
        · have hf := so_t c27 hf
          refine jr_aload_n dX8_number_116 rfl rfl jv_rr ?_
          refine jr_iconst dX8_number_117 ic_2 ?_
          refine jr_iload_n dX8_number_118 rfl rfl ?_
          obtain ⟨S30, h28, hf⟩ := so_b hf
          refine jr_callM (st := []) lk_X8_135_23 (wX8_wrong (2 : Int32) (S4 0 4) hT S23 h28) tm_k23 rfl rfl rfl (so_le rfl) (so_le rfl) dX8_number_119 ?_
          refine jr_sub [0, 4] rfl ?_
          exact hJ25 S30 hf
    · refine jr_if_ne (tgt := 44) dX8_number_32 rfl (fun c31 => ?_) (fun c31 => ?_)
      · have hf := so_f c31 hf
        exact hJ8 S4 hf
      · have hf := so_t c31 hf
        refine jr_aload_n dX8_number_35 rfl rfl jv_rr ?_
        refine jr_iconst dX8_number_36 ic_1 ?_
        refine jr_aload_n dX8_number_37 rfl rfl jv_rr ?_
        refine tr_getI fl_X8_115_23 dX8_number_38 ?_
        obtain ⟨S34, h32, hf⟩ := so_b hf
        refine jr_callM (st := []) lk_X8_135_23 (wX8_wrong (1 : Int32) (S4 0 4) hT S4 h32) tm_k23 rfl rfl rfl (so_le rfl) (so_le rfl) dX8_number_41 ?_
        exact hJ8 S34 hf
  · have hf := so_f c1 hf
    refine jr_iconst dX8_number_7 ic_0 ?_
    obtain ⟨rfl, rfl⟩ := so_e2 hf
    exact jr_iret rfl rfl dX8_number_8

/- X8_sign -/
abbrev kX8_sign : jx_K := (cX8_sign, 2, RX8, 2, (Option.none : Option Jvm.ClassFile.FieldType), "sign", [])
def fX8_sign (a1 : Int32) (sg : tm_S) : Option tm_S :=
  if (sg 0 5) = (0 : Int32) then
  ((fX8_blanks sg).bind fun S4 =>
  (fX8_byteAt (S4 0 4) S4).bind fun r6 =>
  if r6 = a1 then
  (tm_let (tm_up S4 0 4 ((S4 0 4) + (1 : Int32))) fun S11 =>
  some S11)
  else
  ((fX8_wrong (1 : Int32) (S4 0 4) S4).bind fun S10 =>
  some S10))
  else
  (some sg)
set_option maxHeartbeats 4000000 in
set_option maxRecDepth 100000 in
theorem wX8_sign {sg' : tm_S} {S0 : so_St}  (a1 : Int32) (hT : tm_Sh S0) (sg : tm_S)  (hf : fX8_sign a1 sg = some sg') : jx_Sp 2 yX8_sign (ws_ yX8_sign cX8_sign 2 (Option.none : Option Jvm.ClassFile.FieldType)) [.ref (tm_a 0), .int a1] (tm_j S0 sg) (.inl none) (tm_j S0 sg') := by
  refine jx_of (plainFor_of_name (by decide)) (so_le rfl) ?_
  show jg_ ((tm_j S0 sg), (tm_j S0 sg'), .inl none) kX8_sign 0 [(0, .ref (tm_a 0)), (1, .int a1)] [] (tm_j S0 sg)
  unfold fX8_sign at hf
  refine jr_aload_n dX8_sign_0 rfl rfl jv_rr ?_
  refine tr_getI fl_X8_122_23 dX8_sign_1 ?_
  refine jr_if_eq (tgt := 8) dX8_sign_4 rfl (fun c1 => ?_) (fun c1 => ?_)
  · have hf := so_t c1 hf
    refine jr_aload_n dX8_sign_8 rfl rfl jv_rr ?_
    obtain ⟨S4, h2, hf⟩ := so_b hf
    refine jr_callM (st := []) lk_X8_128_23 (wX8_blanks hT sg h2) tm_k23 rfl rfl rfl (so_le rfl) (so_le rfl) dX8_sign_9 ?_
    refine jr_aload_n dX8_sign_12 rfl rfl jv_rr ?_
    refine jr_aload_n dX8_sign_13 rfl rfl jv_rr ?_
    refine tr_getI fl_X8_115_23 dX8_sign_14 ?_
    obtain ⟨r6, h5, hf⟩ := so_b hf
    refine jr_callM (st := []) lk_X8_118_23 (wX8_byteAt (S4 0 4) hT S4 h5) tm_k23 rfl rfl rfl (so_le rfl) (so_le rfl) dX8_sign_17 ?_
    refine jr_iload_n dX8_sign_20 rfl rfl ?_
    refine jr_icmp_ne (tgt := 37) dX8_sign_21 rfl (fun c7 => ?_) (fun c7 => ?_)
    · have hf := so_f c7 hf
      refine jr_aload_n dX8_sign_37 rfl rfl jv_rr ?_
      refine jr_iconst dX8_sign_38 ic_1 ?_
      refine jr_aload_n dX8_sign_39 rfl rfl jv_rr ?_
      refine tr_getI fl_X8_115_23 dX8_sign_40 ?_
      obtain ⟨S10, h8, hf⟩ := so_b hf
      refine jr_callM (st := []) lk_X8_135_23 (wX8_wrong (1 : Int32) (S4 0 4) hT S4 h8) tm_k23 rfl rfl rfl (so_le rfl) (so_le rfl) dX8_sign_43 ?_
      obtain rfl := so_e1 hf
      exact jr_vret rfl dX8_sign_46
    · have hf := so_t c7 hf
      refine jr_aload_n dX8_sign_24 rfl rfl jv_rr ?_
      refine jr_dup dX8_sign_25 rfl ?_
      refine tr_getI fl_X8_115_23 dX8_sign_26 ?_
      refine jr_iconst dX8_sign_29 ic_1 ?_
      refine jr_iadd dX8_sign_30 ?_
      refine tr_putI fp_X8_115_23 dX8_sign_31 ?_
      refine tm_let_e hf (fun S11 hf => ?_)
      refine jr_goto (tgt := 46) dX8_sign_34 rfl ?_
      obtain rfl := so_e1 hf
      exact jr_vret rfl dX8_sign_46
  · have hf := so_f c1 hf
    obtain rfl := so_e1 hf
    exact jr_vret rfl dX8_sign_7

/- X8_readHouse -/
abbrev kX8_readHouse : jx_K := (cX8_readHouse, 1, RX8, 3, (Option.some Jvm.ClassFile.FieldType.int), "readHouse", [])
def fX8_readHouse  (sg : tm_S) : Option (Int32 × tm_S) :=
  so_gd (so_in (0 : Int32) 4) fun _ =>
  tm_b2 (fX8_number (0 : Int32) ((sg 3 (0 : Int32).toNatClampNeg) - (1 : Int32)) sg) fun r3 S4 =>
  some (r3, S4)
set_option maxHeartbeats 4000000 in
set_option maxRecDepth 100000 in
theorem wX8_readHouse {res : Int32} {sg' : tm_S} {S0 : so_St}   (hT : tm_Sh S0) (sg : tm_S)  (hf : fX8_readHouse sg = some (res, sg')) : jx_Sp 3 yX8_readHouse (ws_ yX8_readHouse cX8_readHouse 1 (Option.some Jvm.ClassFile.FieldType.int)) [.ref (tm_a 0)] (tm_j S0 sg) (.inl (some (.int res))) (tm_j S0 sg') := by
  refine jx_of (plainFor_of_name (by decide)) (so_le rfl) ?_
  show jg_ ((tm_j S0 sg), (tm_j S0 sg'), .inl (some (.int res))) kX8_readHouse 0 [(0, .ref (tm_a 0))] [] (tm_j S0 sg)
  unfold fX8_readHouse at hf
  refine jr_aload_n dX8_readHouse_0 rfl rfl jv_rr ?_
  refine jr_iconst dX8_readHouse_1 ic_0 ?_
  refine jr_aload_n dX8_readHouse_2 rfl rfl jv_rr ?_
  refine tr_getR (c := 3) hT (List.mem_of_getElem? (i := 2) rfl) fl_X8_20_23 dX8_readHouse_3 ?_
  refine jr_iconst dX8_readHouse_6 ic_0 ?_
  obtain ⟨g1, hf⟩ := so_gdE hf
  refine tr_iaload hT (show tm_k 3 = 50 from rfl) rfl (so_inE g1) dX8_readHouse_7 ?_
  refine jr_iconst dX8_readHouse_8 ic_1 ?_
  refine jr_isub dX8_readHouse_9 ?_
  obtain ⟨r3, S4, h2, hf⟩ := tm_b2E hf
  refine jr_callM (st := []) lk_X8_168_23 (wX8_number (0 : Int32) ((sg 3 (0 : Int32).toNatClampNeg) - (1 : Int32)) hT sg h2) tm_k23 rfl rfl rfl (so_le rfl) (so_le rfl) dX8_readHouse_10 ?_
  obtain ⟨rfl, rfl⟩ := so_e2 hf
  exact jr_iret rfl rfl dX8_readHouse_13

/- X8_isReadWall -/
abbrev kX8_isReadWall : jx_K := (cX8_isReadWall, 4, RX8, 0, (Option.some Jvm.ClassFile.FieldType.boolean), "isReadWall", [])
def LX8_isReadWall_2 (f1 : Int32) (f2 : Int32) (sg : tm_S) : Nat → Int32 → Option Int32
  | 0, _ => none
  | n + 1, v1 =>
    so_gd (so_in (1 : Int32) 4) fun _ =>
    if (sg 3 (1 : Int32).toNatClampNeg) ≤ v1 then
    (some (0 : Int32))
    else
    (so_gd (so_in v1 12) fun _ =>
    so_gd (so_in (0 : Int32) 2) fun _ =>
    so_j (κ := Unit → Option Int32) (ρ := Option Int32) (fun (_u : Unit) =>
    so_gd (so_in v1 12) fun _ =>
    so_gd (so_in (0 : Int32) 2) fun _ =>
    so_j (κ := Unit → Option Int32) (ρ := Option Int32) (fun (_u : Unit) =>
    LX8_isReadWall_2 f1 f2 sg n (v1 + (1 : Int32)))
    (fun J9 =>
    if (sg (10 + v1.toNatClampNeg) (0 : Int32).toNatClampNeg) = f2 then
    (so_gd (so_in v1 12) fun _ =>
    so_gd (so_in (1 : Int32) 2) fun _ =>
    if (sg (10 + v1.toNatClampNeg) (1 : Int32).toNatClampNeg) = f1 then
    (some (1 : Int32))
    else
    (J9 ()))
    else
    (J9 ())))
    (fun J6 =>
    if (sg (10 + v1.toNatClampNeg) (0 : Int32).toNatClampNeg) = f1 then
    (so_gd (so_in v1 12) fun _ =>
    so_gd (so_in (1 : Int32) 2) fun _ =>
    if (sg (10 + v1.toNatClampNeg) (1 : Int32).toNatClampNeg) = f2 then
    (some (1 : Int32))
    else
    (J6 ()))
    else
    (J6 ())))
set_option maxHeartbeats 4000000 in
set_option maxRecDepth 100000 in
theorem wX8_isReadWall_2 {res : Int32} {S0 : so_St}   (f1 : Int32) (f2 : Int32) (hT : tm_Sh S0) (sg : tm_S)  : ∀ (n : Nat) (v1 : Int32), LX8_isReadWall_2 f1 f2 sg n v1 = some res → jg_ (tm_j S0 sg, tm_j S0 sg, .inl (some (.int res))) kX8_isReadWall 2 [(0, .ref (tm_a 0)), (1, .int f1), (2, .int f2), (3, .int v1)] [] (tm_j S0 sg) := by
  intro n
  induction n with
  | zero =>
    intro v1 hf
    exact so_no hf
  | succ n ih =>
    intro v1 hf
    rw [LX8_isReadWall_2] at hf
    refine jr_iload_n dX8_isReadWall_2 rfl rfl ?_
    refine jr_aload_n dX8_isReadWall_3 rfl rfl jv_rr ?_
    refine tr_getR (c := 3) hT (List.mem_of_getElem? (i := 2) rfl) fl_X8_20_23 dX8_isReadWall_4 ?_
    refine jr_iconst dX8_isReadWall_7 ic_1 ?_
    obtain ⟨g2, hf⟩ := so_gdE hf
    refine tr_iaload hT (show tm_k 3 = 50 from rfl) rfl (so_inE g2) dX8_isReadWall_8 ?_
    refine jr_icmp_ge (tgt := 68) dX8_isReadWall_9 rfl (fun c3 => ?_) (fun c3 => ?_)
    · have hf := so_t c3 hf
      refine jr_iconst dX8_isReadWall_68 ic_0 ?_
      obtain rfl := so_e1 hf
      exact jr_iret rfl rfl dX8_isReadWall_69
    · have hf := so_f c3 hf
      refine jr_aload_n dX8_isReadWall_12 rfl rfl jv_rr ?_
      refine tr_getR (c := 9) hT (List.mem_of_getElem? (i := 8) rfl) fl_X8_40_23 dX8_isReadWall_13 ?_
      refine jr_iload_n dX8_isReadWall_16 rfl rfl ?_
      obtain ⟨g4, hf⟩ := so_gdE hf
      refine tr_aaload (g' := 10) hT (show tm_k 9 = 56 from rfl) rfl rfl (so_inE g4) dX8_isReadWall_17 ?_
      refine jr_iconst dX8_isReadWall_18 ic_0 ?_
      obtain ⟨g5, hf⟩ := so_gdE hf
      refine tr_iaload hT (tm_rk_9 (so_inE g4)) (tm_rl_9 (so_inE g4)) (so_inE g5) dX8_isReadWall_19 ?_
      refine jr_iload_n dX8_isReadWall_20 rfl rfl ?_
      refine so_jE hf (fun J => ∀ (u0 : Unit), J u0 = some res → jg_ (tm_j S0 sg, tm_j S0 sg, .inl (some (.int res))) kX8_isReadWall 36 [(0, .ref (tm_a 0)), (1, .int f1), (2, .int f2), (3, .int v1)] [] (tm_j S0 sg)) (fun _u hf => ?_) (fun J6 hJ6 hf => ?_)
      · refine jr_aload_n dX8_isReadWall_36 rfl rfl jv_rr ?_
        refine tr_getR (c := 9) hT (List.mem_of_getElem? (i := 8) rfl) fl_X8_40_23 dX8_isReadWall_37 ?_
        refine jr_iload_n dX8_isReadWall_40 rfl rfl ?_
        obtain ⟨g7, hf⟩ := so_gdE hf
        refine tr_aaload (g' := 10) hT (show tm_k 9 = 56 from rfl) rfl rfl (so_inE g7) dX8_isReadWall_41 ?_
        refine jr_iconst dX8_isReadWall_42 ic_0 ?_
        obtain ⟨g8, hf⟩ := so_gdE hf
        refine tr_iaload hT (tm_rk_9 (so_inE g7)) (tm_rl_9 (so_inE g7)) (so_inE g8) dX8_isReadWall_43 ?_
        refine jr_iload_n dX8_isReadWall_44 rfl rfl ?_
        refine so_jE hf (fun J => ∀ (u0 : Unit), J u0 = some res → jg_ (tm_j S0 sg, tm_j S0 sg, .inl (some (.int res))) kX8_isReadWall 62 [(0, .ref (tm_a 0)), (1, .int f1), (2, .int f2), (3, .int v1)] [] (tm_j S0 sg)) (fun _u hf => ?_) (fun J9 hJ9 hf => ?_)
        · refine jr_iinc (v := v1 + (1 : Int32)) (lv' := [(0, .ref (tm_a 0)), (1, .int f1), (2, .int f2), (3, .int (v1 + (1 : Int32)))]) dX8_isReadWall_62 rfl rfl (so_le rfl) rfl ?_
          refine jr_goto (tgt := 2) dX8_isReadWall_65 rfl ?_
          exact ih (v1 + (1 : Int32)) hf
        · refine jr_icmp_ne (tgt := 62) dX8_isReadWall_45 rfl (fun c10 => ?_) (fun c10 => ?_)
          · have hf := so_f c10 hf
            exact hJ9 () hf
          · have hf := so_t c10 hf
            refine jr_aload_n dX8_isReadWall_48 rfl rfl jv_rr ?_
            refine tr_getR (c := 9) hT (List.mem_of_getElem? (i := 8) rfl) fl_X8_40_23 dX8_isReadWall_49 ?_
            refine jr_iload_n dX8_isReadWall_52 rfl rfl ?_
            obtain ⟨g11, hf⟩ := so_gdE hf
            refine tr_aaload (g' := 10) hT (show tm_k 9 = 56 from rfl) rfl rfl (so_inE g11) dX8_isReadWall_53 ?_
            refine jr_iconst dX8_isReadWall_54 ic_1 ?_
            obtain ⟨g12, hf⟩ := so_gdE hf
            refine tr_iaload hT (tm_rk_9 (so_inE g11)) (tm_rl_9 (so_inE g11)) (so_inE g12) dX8_isReadWall_55 ?_
            refine jr_iload_n dX8_isReadWall_56 rfl rfl ?_
            refine jr_icmp_ne (tgt := 62) dX8_isReadWall_57 rfl (fun c13 => ?_) (fun c13 => ?_)
            · have hf := so_f c13 hf
              exact hJ9 () hf
            · have hf := so_t c13 hf
              refine jr_iconst dX8_isReadWall_60 ic_1 ?_
              obtain rfl := so_e1 hf
              exact jr_iret rfl rfl dX8_isReadWall_61
      · refine jr_icmp_ne (tgt := 36) dX8_isReadWall_21 rfl (fun c14 => ?_) (fun c14 => ?_)
        · have hf := so_f c14 hf
          exact hJ6 () hf
        · have hf := so_t c14 hf
          refine jr_aload_n dX8_isReadWall_24 rfl rfl jv_rr ?_
          refine tr_getR (c := 9) hT (List.mem_of_getElem? (i := 8) rfl) fl_X8_40_23 dX8_isReadWall_25 ?_
          refine jr_iload_n dX8_isReadWall_28 rfl rfl ?_
          obtain ⟨g15, hf⟩ := so_gdE hf
          refine tr_aaload (g' := 10) hT (show tm_k 9 = 56 from rfl) rfl rfl (so_inE g15) dX8_isReadWall_29 ?_
          refine jr_iconst dX8_isReadWall_30 ic_1 ?_
          obtain ⟨g16, hf⟩ := so_gdE hf
          refine tr_iaload hT (tm_rk_9 (so_inE g15)) (tm_rl_9 (so_inE g15)) (so_inE g16) dX8_isReadWall_31 ?_
          refine jr_iload_n dX8_isReadWall_32 rfl rfl ?_
          refine jr_icmp_eq (tgt := 60) dX8_isReadWall_33 rfl (fun c17 => ?_) (fun c17 => ?_)
          · have hf := so_t c17 hf
            refine jr_iconst dX8_isReadWall_60 ic_1 ?_
            obtain rfl := so_e1 hf
            exact jr_iret rfl rfl dX8_isReadWall_61
          · have hf := so_f c17 hf
            exact hJ6 () hf
def fX8_isReadWall (a1 : Int32) (a2 : Int32) (sg : tm_S) : Option Int32 :=
  LX8_isReadWall_2 a1 a2 sg so_N (0 : Int32)
set_option maxHeartbeats 4000000 in
set_option maxRecDepth 100000 in
theorem wX8_isReadWall {res : Int32} {S0 : so_St}  (a1 : Int32) (a2 : Int32) (hT : tm_Sh S0) (sg : tm_S)  (hf : fX8_isReadWall a1 a2 sg = some res) : jx_Sp 0 yX8_isReadWall (ws_ yX8_isReadWall cX8_isReadWall 4 (Option.some Jvm.ClassFile.FieldType.boolean)) [.ref (tm_a 0), .int a1, .int a2] (tm_j S0 sg) (.inl (some (.int res))) (tm_j S0 sg) := by
  refine jx_of (plainFor_of_name (by decide)) (so_le rfl) ?_
  show jg_ ((tm_j S0 sg), (tm_j S0 sg), .inl (some (.int res))) kX8_isReadWall 0 [(0, .ref (tm_a 0)), (1, .int a1), (2, .int a2)] [] (tm_j S0 sg)
  unfold fX8_isReadWall at hf
  refine jr_iconst dX8_isReadWall_0 ic_0 ?_
  refine jr_istore_n (lv' := [(0, .ref (tm_a 0)), (1, .int a1), (2, .int a2), (3, .int (0 : Int32))]) dX8_isReadWall_1 rfl (so_le rfl) rfl ?_
  refine wX8_isReadWall_2 a1 a2 hT sg so_N (0 : Int32) hf
