/-! printed: functions and walks -/
set_option maxRecDepth 100000
set_option linter.unusedVariables false
/- X8_forceOf -/
abbrev kX8_forceOf : jx_K := (cX8_forceOf, 3, RX8, 5, (Option.some Jvm.ClassFile.FieldType.int), "forceOf", [])
def fX8_forceOf (a1 : Nat) (a2 : Int32) (sg : tm_S) : Option (Int32 × tm_S) :=
  so_gd (so_in ((86 : Int32) + a2) (tm_len a1)) fun _ =>
  tm_b2 (fX8_forceWith a1 a2 (sg a1 ((86 : Int32) + a2).toNatClampNeg) sg) fun r3 S4 =>
  some (r3, S4)
set_option maxHeartbeats 4000000 in
set_option maxRecDepth 100000 in
theorem wX8_forceOf {res : Int32} {sg' : tm_S} {S0 : so_St}  (a1 : Nat) (a2 : Int32) (hT : tm_Sh S0) (sg : tm_S) (k_a1 : tm_k a1 = 50) (hf : fX8_forceOf a1 a2 sg = some (res, sg')) : jx_Sp 5 yX8_forceOf (ws_ yX8_forceOf cX8_forceOf 3 (Option.some Jvm.ClassFile.FieldType.int)) [.ref (tm_a 0), .ref (tm_a a1), .int a2] (tm_j S0 sg) (.inl (some (.int res))) (tm_j S0 sg') := by
  refine jx_of (plainFor_of_name (by decide)) (so_le rfl) ?_
  show jg_ ((tm_j S0 sg), (tm_j S0 sg'), .inl (some (.int res))) kX8_forceOf 0 [(0, .ref (tm_a 0)), (1, .ref (tm_a a1)), (2, .int a2)] [] (tm_j S0 sg)
  unfold fX8_forceOf at hf
  refine jr_aload_n dX8_forceOf_0 rfl rfl jv_rr ?_
  refine jr_aload_n dX8_forceOf_1 rfl rfl jv_rr ?_
  refine jr_iload_n dX8_forceOf_2 rfl rfl ?_
  refine jr_aload_n dX8_forceOf_3 rfl rfl jv_rr ?_
  refine jr_bipush dX8_forceOf_4 bp_86 ?_
  refine jr_iload_n dX8_forceOf_6 rfl rfl ?_
  refine jr_iadd dX8_forceOf_7 ?_
  obtain ⟨g1, hf⟩ := so_gdE hf
  refine tr_iaload hT k_a1 rfl (so_inE g1) dX8_forceOf_8 ?_
  obtain ⟨r3, S4, h2, hf⟩ := tm_b2E hf
  refine jr_callM (st := []) lk_X8_282_23 (wX8_forceWith a1 a2 (sg a1 ((86 : Int32) + a2).toNatClampNeg) hT sg k_a1 h2) tm_k23 rfl rfl rfl (so_le rfl) (so_le rfl) dX8_forceOf_9 ?_
  obtain ⟨rfl, rfl⟩ := so_e2 hf
  exact jr_iret rfl rfl dX8_forceOf_12

/- X8_isFight -/
abbrev kX8_isFight : jx_K := (cX8_isFight, 4, RX8, 2, (Option.some Jvm.ClassFile.FieldType.boolean), "isFight", [])
def fX8_isFight (a1 : Nat) (a2 : Int32) (a3 : Int32) (sg : tm_S) : Option Int32 :=
  (fX8_isBeside a1 a2 a3 sg).bind fun r2 =>
  if r2 = (0 : Int32) then
  (some (0 : Int32))
  else
  (so_gd (so_in a2 6) fun _ =>
  so_gd (so_in (0 : Int32) 2) fun _ =>
  so_gd (so_in a3 6) fun _ =>
  so_gd (so_in (0 : Int32) 2) fun _ =>
  if (sg (43 + a2.toNatClampNeg) (0 : Int32).toNatClampNeg) = (sg (43 + a3.toNatClampNeg) (0 : Int32).toNatClampNeg) then
  (some (0 : Int32))
  else
  (some (1 : Int32)))
set_option maxHeartbeats 4000000 in
set_option maxRecDepth 100000 in
theorem wX8_isFight {res : Int32} {S0 : so_St}  (a1 : Nat) (a2 : Int32) (a3 : Int32) (hT : tm_Sh S0) (sg : tm_S) (k_a1 : tm_k a1 = 50) (hf : fX8_isFight a1 a2 a3 sg = some res) : jx_Sp 2 yX8_isFight (ws_ yX8_isFight cX8_isFight 4 (Option.some Jvm.ClassFile.FieldType.boolean)) [.ref (tm_a 0), .ref (tm_a a1), .int a2, .int a3] (tm_j S0 sg) (.inl (some (.int res))) (tm_j S0 sg) := by
  refine jx_of (plainFor_of_name (by decide)) (so_le rfl) ?_
  show jg_ ((tm_j S0 sg), (tm_j S0 sg), .inl (some (.int res))) kX8_isFight 0 [(0, .ref (tm_a 0)), (1, .ref (tm_a a1)), (2, .int a2), (3, .int a3)] [] (tm_j S0 sg)
  unfold fX8_isFight at hf
  refine jr_aload_n dX8_isFight_0 rfl rfl jv_rr ?_
  refine jr_aload_n dX8_isFight_1 rfl rfl jv_rr ?_
  refine jr_iload_n dX8_isFight_2 rfl rfl ?_
  refine jr_iload_n dX8_isFight_3 rfl rfl ?_
  obtain ⟨r2, h1, hf⟩ := so_b hf
  refine jr_callM (st := []) lk_X8_271_23 (wX8_isBeside a1 a2 a3 hT sg k_a1 h1) tm_k23 rfl rfl rfl (so_le rfl) (so_le rfl) dX8_isFight_4 ?_
  refine jr_if_eq (tgt := 33) dX8_isFight_7 rfl (fun c3 => ?_) (fun c3 => ?_)
  · have hf := so_t c3 hf
    refine jr_iconst dX8_isFight_33 ic_0 ?_
    obtain rfl := so_e1 hf
    exact jr_iret rfl rfl dX8_isFight_34
  · have hf := so_f c3 hf
    refine jr_aload_n dX8_isFight_10 rfl rfl jv_rr ?_
    refine tr_getR (c := 42) hT (List.mem_of_getElem? (i := 11) rfl) fl_X8_49_23 dX8_isFight_11 ?_
    refine jr_iload_n dX8_isFight_14 rfl rfl ?_
    obtain ⟨g4, hf⟩ := so_gdE hf
    refine tr_aaload (g' := 43) hT (show tm_k 42 = 56 from rfl) rfl rfl (so_inE g4) dX8_isFight_15 ?_
    refine jr_iconst dX8_isFight_16 ic_0 ?_
    obtain ⟨g5, hf⟩ := so_gdE hf
    refine tr_iaload hT (tm_rk_42 (so_inE g4)) (tm_rl_42 (so_inE g4)) (so_inE g5) dX8_isFight_17 ?_
    refine jr_aload_n dX8_isFight_18 rfl rfl jv_rr ?_
    refine tr_getR (c := 42) hT (List.mem_of_getElem? (i := 11) rfl) fl_X8_49_23 dX8_isFight_19 ?_
    refine jr_iload_n dX8_isFight_22 rfl rfl ?_
    obtain ⟨g6, hf⟩ := so_gdE hf
    refine tr_aaload (g' := 43) hT (show tm_k 42 = 56 from rfl) rfl rfl (so_inE g6) dX8_isFight_23 ?_
    refine jr_iconst dX8_isFight_24 ic_0 ?_
    obtain ⟨g7, hf⟩ := so_gdE hf
    refine tr_iaload hT (tm_rk_42 (so_inE g6)) (tm_rl_42 (so_inE g6)) (so_inE g7) dX8_isFight_25 ?_
    refine jr_icmp_eq (tgt := 33) dX8_isFight_26 rfl (fun c8 => ?_) (fun c8 => ?_)
    · have hf := so_t c8 hf
      refine jr_iconst dX8_isFight_33 ic_0 ?_
      obtain rfl := so_e1 hf
      exact jr_iret rfl rfl dX8_isFight_34
    · have hf := so_f c8 hf
      refine jr_iconst dX8_isFight_29 ic_1 ?_
      refine jr_goto (tgt := 34) dX8_isFight_30 rfl ?_
      obtain rfl := so_e1 hf
      exact jr_iret rfl rfl dX8_isFight_34

/- X8_brings -/
abbrev kX8_brings : jx_K := (cX8_brings, 5, RX8, 6, (Option.some Jvm.ClassFile.FieldType.int), "brings", [])
def LX8_brings_10 (f1 : Nat) (f2 : Int32) (k52 : Int32 → tm_S → Option (Int32 × tm_S)) : Nat → Int32 → Int32 → tm_S → Option (Int32 × tm_S)
  | 0, _, _, _ => none
  | n + 1, v4, v5, S6 =>
    so_gd (so_in (2 : Int32) 4) fun _ =>
    if (S6 4 (2 : Int32).toNatClampNeg) ≤ v5 then
    (k52 v4 S6)
    else
    ((fX8_isFight f1 f2 v5 S6).bind fun r10 =>
    so_j (κ := Int32 → tm_S → Option (Int32 × tm_S)) (ρ := Option (Int32 × tm_S)) (fun (v11 : Int32) (S12 : tm_S) =>
    LX8_brings_10 f1 f2 k52 n (v4 - v11) (v5 + (1 : Int32)) S12)
    (fun J13 =>
    if r10 = (0 : Int32) then
    (J13 (0 : Int32) S6)
    else
    (tm_b2 (fX8_forceOf f1 v5 S6) fun r16 S17 =>
    J13 r16 S17)))
set_option maxHeartbeats 4000000 in
set_option maxRecDepth 100000 in
theorem wX8_brings_10 {res : Int32} {sg' : tm_S} {S0 : so_St} {sg0 : tm_S}   (f1 : Nat) (f2 : Int32) (hT : tm_Sh S0)  (k_f1 : tm_k f1 = 50) (k52 : Int32 → tm_S → Option (Int32 × tm_S)) (h52 : ∀ (v18 : Int32) (S19 : tm_S), k52 v18 S19 = some (res, sg') → jg_ (tm_j S0 sg0, tm_j S0 sg', .inl (some (.int res))) kX8_brings 52 [(3, .int v18)] [] (tm_j S0 S19)) : ∀ (n : Nat) (v4 : Int32) (v5 : Int32) (S6 : tm_S), LX8_brings_10 f1 f2 k52 n v4 v5 S6 = some (res, sg') → jg_ (tm_j S0 sg0, tm_j S0 sg', .inl (some (.int res))) kX8_brings 10 [(0, .ref (tm_a 0)), (1, .ref (tm_a f1)), (2, .int f2), (3, .int v4), (4, .int v5)] [] (tm_j S0 S6) := by
  intro n
  induction n with
  | zero =>
    intro v4 v5 S6 hf
    exact so_no hf
  | succ n ih =>
    intro v4 v5 S6 hf
    rw [LX8_brings_10] at hf
    refine jr_iload dX8_brings_10 rfl ?_
    refine jr_aload_n dX8_brings_12 rfl rfl jv_rr ?_
    refine tr_getR (c := 4) hT (List.mem_of_getElem? (i := 3) rfl) fl_X8_23_23 dX8_brings_13 ?_
    refine jr_iconst dX8_brings_16 ic_2 ?_
    obtain ⟨g7, hf⟩ := so_gdE hf
    refine tr_iaload hT (show tm_k 4 = 50 from rfl) rfl (so_inE g7) dX8_brings_17 ?_
    refine jr_icmp_ge (tgt := 52) dX8_brings_18 rfl (fun c8 => ?_) (fun c8 => ?_)
    · have hf := so_t c8 hf
      refine jr_sub [3] rfl ?_
      exact h52 v4 S6 hf
    · have hf := so_f c8 hf
      refine jr_iload_n dX8_brings_21 rfl rfl ?_
      refine jr_aload_n dX8_brings_22 rfl rfl jv_rr ?_
      refine jr_aload_n dX8_brings_23 rfl rfl jv_rr ?_
      refine jr_iload_n dX8_brings_24 rfl rfl ?_
      refine jr_iload dX8_brings_25 rfl ?_
      obtain ⟨r10, h9, hf⟩ := so_b hf
      refine jr_callM (st := [.int v4]) lk_X8_290_23 (wX8_isFight f1 f2 v5 hT S6 k_f1 h9) tm_k23 rfl rfl rfl (so_le rfl) (so_le rfl) dX8_brings_27 ?_
      refine so_jE hf (fun J => ∀ (v11 : Int32) (S12 : tm_S), J v11 S12 = some (res, sg') → jg_ (tm_j S0 sg0, tm_j S0 sg', .inl (some (.int res))) kX8_brings 44 [(0, .ref (tm_a 0)), (1, .ref (tm_a f1)), (2, .int f2), (4, .int v5)] [.int v11, .int v4] (tm_j S0 S12)) (fun v11 S12 hf => ?_) (fun J13 hJ13 hf => ?_)
      · refine jr_isub dX8_brings_44 ?_
        refine jr_istore_n (lv' := [(0, .ref (tm_a 0)), (1, .ref (tm_a f1)), (2, .int f2), (3, .int (v4 - v11)), (4, .int v5)]) dX8_brings_45 rfl (so_le rfl) rfl ?_
        refine jr_iinc (v := v5 + (1 : Int32)) (lv' := [(0, .ref (tm_a 0)), (1, .ref (tm_a f1)), (2, .int f2), (3, .int (v4 - v11)), (4, .int (v5 + (1 : Int32)))]) dX8_brings_46 rfl rfl (so_le rfl) rfl ?_
        refine jr_goto (tgt := 10) dX8_brings_49 rfl ?_
        exact ih (v4 - v11) (v5 + (1 : Int32)) S12 hf
      · refine jr_if_eq (tgt := 43) dX8_brings_30 rfl (fun c14 => ?_) (fun c14 => ?_)
        · have hf := so_t c14 hf
          refine jr_iconst dX8_brings_43 ic_0 ?_
          refine jr_sub [0, 1, 2, 4] rfl ?_
          exact hJ13 (0 : Int32) S6 hf
        · have hf := so_f c14 hf
          refine jr_aload_n dX8_brings_33 rfl rfl jv_rr ?_
          refine jr_aload_n dX8_brings_34 rfl rfl jv_rr ?_
          refine jr_iload dX8_brings_35 rfl ?_
          obtain ⟨r16, S17, h15, hf⟩ := tm_b2E hf
          refine jr_callM (st := [.int v4]) lk_X8_286_23 (wX8_forceOf f1 v5 hT S6 k_f1 h15) tm_k23 rfl rfl rfl (so_le rfl) (so_le rfl) dX8_brings_37 ?_
          refine jr_goto (tgt := 44) dX8_brings_40 rfl ?_
          refine jr_sub [0, 1, 2, 4] rfl ?_
          exact hJ13 r16 S17 hf
def fX8_brings (a1 : Nat) (a2 : Int32) (sg : tm_S) : Option (Int32 × tm_S) :=
  tm_b2 (fX8_forceOf a1 a2 sg) fun r2 S3 =>
  LX8_brings_10 a1 a2 (fun (v20 : Int32) (S21 : tm_S) =>
  some ((fX8_more (0 : Int32) v20), S21)) so_N r2 (0 : Int32) S3
set_option maxHeartbeats 4000000 in
set_option maxRecDepth 100000 in
theorem wX8_brings {res : Int32} {sg' : tm_S} {S0 : so_St}  (a1 : Nat) (a2 : Int32) (hT : tm_Sh S0) (sg : tm_S) (k_a1 : tm_k a1 = 50) (hf : fX8_brings a1 a2 sg = some (res, sg')) : jx_Sp 6 yX8_brings (ws_ yX8_brings cX8_brings 5 (Option.some Jvm.ClassFile.FieldType.int)) [.ref (tm_a 0), .ref (tm_a a1), .int a2] (tm_j S0 sg) (.inl (some (.int res))) (tm_j S0 sg') := by
  refine jx_of (plainFor_of_name (by decide)) (so_le rfl) ?_
  show jg_ ((tm_j S0 sg), (tm_j S0 sg'), .inl (some (.int res))) kX8_brings 0 [(0, .ref (tm_a 0)), (1, .ref (tm_a a1)), (2, .int a2)] [] (tm_j S0 sg)
  unfold fX8_brings at hf
  refine jr_aload_n dX8_brings_0 rfl rfl jv_rr ?_
  refine jr_aload_n dX8_brings_1 rfl rfl jv_rr ?_
  refine jr_iload_n dX8_brings_2 rfl rfl ?_
  obtain ⟨r2, S3, h1, hf⟩ := tm_b2E hf
  refine jr_callM (st := []) lk_X8_286_23 (wX8_forceOf a1 a2 hT sg k_a1 h1) tm_k23 rfl rfl rfl (so_le rfl) (so_le rfl) dX8_brings_3 ?_
  refine jr_istore_n (lv' := [(0, .ref (tm_a 0)), (1, .ref (tm_a a1)), (2, .int a2), (3, .int r2)]) dX8_brings_6 rfl (so_le rfl) rfl ?_
  refine jr_iconst dX8_brings_7 ic_0 ?_
  refine jr_istore (lv' := [(0, .ref (tm_a 0)), (1, .ref (tm_a a1)), (2, .int a2), (3, .int r2), (4, .int (0 : Int32))]) dX8_brings_8 (so_le rfl) rfl ?_
  refine wX8_brings_10 a1 a2 hT k_a1 _ (fun v20 S21 hf => ?_) so_N r2 (0 : Int32) S3 hf
  refine jr_iconst dX8_brings_52 ic_0 ?_
  refine jr_iload_n dX8_brings_53 rfl rfl ?_
  refine jr_call (st := []) lk_X8_252 (wX8_more (0 : Int32) v20 hT S21 rfl) jk_r0 rfl rfl (so_le rfl) (so_le rfl) dX8_brings_54 ?_
  obtain ⟨rfl, rfl⟩ := so_e2 hf
  exact jr_iret rfl rfl dX8_brings_57

/- X8_dayEnds -/
abbrev kX8_dayEnds : jx_K := (cX8_dayEnds, 4, RX8, 7, (Option.none : Option Jvm.ClassFile.FieldType), "dayEnds", [])
def LX8_dayEnds_2 (f1 : Nat) (k30 : tm_S → Option tm_S) : Nat → Int32 → tm_S → Option tm_S
  | 0, _, _ => none
  | n + 1, v1, S2 =>
    so_gd (so_in (2 : Int32) 4) fun _ =>
    if (S2 4 (2 : Int32).toNatClampNeg) ≤ v1 then
    (k30 S2)
    else
    (tm_b2 (fX8_brings f1 v1 S2) fun r6 S7 =>
    so_gd (so_in v1 6) fun _ =>
    tm_let (tm_up S7 470 v1.toNatClampNeg r6) fun S9 =>
    LX8_dayEnds_2 f1 k30 n (v1 + (1 : Int32)) S9)
set_option maxHeartbeats 4000000 in
set_option maxRecDepth 100000 in
theorem wX8_dayEnds_2 {sg' : tm_S} {S0 : so_St} {sg0 : tm_S}   (f1 : Nat) (hT : tm_Sh S0)  (k_f1 : tm_k f1 = 50) (k30 : tm_S → Option tm_S) (h30 : ∀ (S10 : tm_S), k30 S10 = some sg' → jg_ (tm_j S0 sg0, tm_j S0 sg', .inl none) kX8_dayEnds 30 [(0, .ref (tm_a 0)), (1, .ref (tm_a f1))] [] (tm_j S0 S10)) : ∀ (n : Nat) (v1 : Int32) (S2 : tm_S), LX8_dayEnds_2 f1 k30 n v1 S2 = some sg' → jg_ (tm_j S0 sg0, tm_j S0 sg', .inl none) kX8_dayEnds 2 [(0, .ref (tm_a 0)), (1, .ref (tm_a f1)), (2, .int v1)] [] (tm_j S0 S2) := by
  intro n
  induction n with
  | zero =>
    intro v1 S2 hf
    exact so_no hf
  | succ n ih =>
    intro v1 S2 hf
    rw [LX8_dayEnds_2] at hf
    refine jr_iload_n dX8_dayEnds_2 rfl rfl ?_
    refine jr_aload_n dX8_dayEnds_3 rfl rfl jv_rr ?_
    refine tr_getR (c := 4) hT (List.mem_of_getElem? (i := 3) rfl) fl_X8_23_23 dX8_dayEnds_4 ?_
    refine jr_iconst dX8_dayEnds_7 ic_2 ?_
    obtain ⟨g3, hf⟩ := so_gdE hf
    refine tr_iaload hT (show tm_k 4 = 50 from rfl) rfl (so_inE g3) dX8_dayEnds_8 ?_
    refine jr_icmp_ge (tgt := 30) dX8_dayEnds_9 rfl (fun c4 => ?_) (fun c4 => ?_)
    · have hf := so_t c4 hf
      refine jr_sub [0, 1] rfl ?_
      exact h30 S2 hf
    · have hf := so_f c4 hf
      refine jr_aload_n dX8_dayEnds_12 rfl rfl jv_rr ?_
      refine tr_getR (c := 470) hT (List.mem_of_getElem? (i := 21) rfl) fl_X8_79_23 dX8_dayEnds_13 ?_
      refine jr_iload_n dX8_dayEnds_16 rfl rfl ?_
      refine jr_aload_n dX8_dayEnds_17 rfl rfl jv_rr ?_
      refine jr_aload_n dX8_dayEnds_18 rfl rfl jv_rr ?_
      refine jr_iload_n dX8_dayEnds_19 rfl rfl ?_
      obtain ⟨r6, S7, h5, hf⟩ := tm_b2E hf
      refine jr_callM (st := [.int v1, .ref (tm_a 470)]) lk_X8_296_23 (wX8_brings f1 v1 hT S2 k_f1 h5) tm_k23 rfl rfl rfl (so_le rfl) (so_le rfl) dX8_dayEnds_20 ?_
      obtain ⟨g8, hf⟩ := so_gdE hf
      refine tr_iastore hT (show tm_k 470 = 50 from rfl) rfl (so_inE g8) dX8_dayEnds_23 ?_
      refine tm_let_e hf (fun S9 hf => ?_)
      refine jr_iinc (v := v1 + (1 : Int32)) (lv' := [(0, .ref (tm_a 0)), (1, .ref (tm_a f1)), (2, .int (v1 + (1 : Int32)))]) dX8_dayEnds_24 rfl rfl (so_le rfl) rfl ?_
      refine jr_goto (tgt := 2) dX8_dayEnds_27 rfl ?_
      exact ih (v1 + (1 : Int32)) S9 hf
def LX8_dayEnds_32 (f1 : Nat) (k110 : tm_S → Option tm_S) : Nat → Int32 → tm_S → Option tm_S
  | 0, _, _ => none
  | n + 1, v12, S13 =>
    so_gd (so_in (2 : Int32) 4) fun _ =>
    if (S13 4 (2 : Int32).toNatClampNeg) ≤ v12 then
    (k110 S13)
    else
    (so_gd (so_in ((80 : Int32) + v12) (tm_len f1)) fun _ =>
    so_j (κ := tm_S → Option tm_S) (ρ := Option tm_S) (fun (S17 : tm_S) =>
    LX8_dayEnds_32 f1 k110 n (v12 + (1 : Int32)) S17)
    (fun J18 =>
    if (S13 f1 ((80 : Int32) + v12).toNatClampNeg) = (-1 : Int32) then
    (J18 S13)
    else
    (so_gd (so_in ((80 : Int32) + v12) (tm_len f1)) fun _ =>
    so_gd (so_in v12 6) fun _ =>
    so_gd (so_in (0 : Int32) 2) fun _ =>
    so_gd (so_in (((0 : Int32) + ((10 : Int32) * (S13 f1 ((80 : Int32) + v12).toNatClampNeg))) + (S13 (43 + v12.toNatClampNeg) (0 : Int32).toNatClampNeg)) (tm_len f1)) fun _ =>
    so_gd (so_in v12 6) fun _ =>
    so_gd (so_in (((0 : Int32) + ((10 : Int32) * (S13 f1 ((80 : Int32) + v12).toNatClampNeg))) + (S13 (43 + v12.toNatClampNeg) (0 : Int32).toNatClampNeg)) (tm_len f1)) fun _ =>
    tm_let (tm_up S13 f1 (((0 : Int32) + ((10 : Int32) * (S13 f1 ((80 : Int32) + v12).toNatClampNeg))) + (S13 (43 + v12.toNatClampNeg) (0 : Int32).toNatClampNeg)).toNatClampNeg (fX8_less (99 : Int32) ((S13 f1 (((0 : Int32) + ((10 : Int32) * (S13 f1 ((80 : Int32) + v12).toNatClampNeg))) + (S13 (43 + v12.toNatClampNeg) (0 : Int32).toNatClampNeg)).toNatClampNeg) + (S13 470 v12.toNatClampNeg)))) fun S26 =>
    so_gd (so_in ((92 : Int32) + v12) (tm_len f1)) fun _ =>
    so_gd (so_in ((92 : Int32) + v12) (tm_len f1)) fun _ =>
    tm_let (tm_up S26 f1 ((92 : Int32) + v12).toNatClampNeg ((S26 f1 ((92 : Int32) + v12).toNatClampNeg) + (1 : Int32))) fun S29 =>
    J18 S29)))
set_option maxHeartbeats 4000000 in
set_option maxRecDepth 100000 in
theorem wX8_dayEnds_32 {sg' : tm_S} {S0 : so_St} {sg0 : tm_S}   (f1 : Nat) (hT : tm_Sh S0)  (k_f1 : tm_k f1 = 50) (k110 : tm_S → Option tm_S) (h110 : ∀ (S30 : tm_S), k110 S30 = some sg' → jg_ (tm_j S0 sg0, tm_j S0 sg', .inl none) kX8_dayEnds 110 [(1, .ref (tm_a f1))] [] (tm_j S0 S30)) : ∀ (n : Nat) (v12 : Int32) (S13 : tm_S), LX8_dayEnds_32 f1 k110 n v12 S13 = some sg' → jg_ (tm_j S0 sg0, tm_j S0 sg', .inl none) kX8_dayEnds 32 [(0, .ref (tm_a 0)), (1, .ref (tm_a f1)), (2, .int v12)] [] (tm_j S0 S13) := by
  intro n
  induction n with
  | zero =>
    intro v12 S13 hf
    exact so_no hf
  | succ n ih =>
    intro v12 S13 hf
    rw [LX8_dayEnds_32] at hf
    refine jr_iload_n dX8_dayEnds_32 rfl rfl ?_
    refine jr_aload_n dX8_dayEnds_33 rfl rfl jv_rr ?_
    refine tr_getR (c := 4) hT (List.mem_of_getElem? (i := 3) rfl) fl_X8_23_23 dX8_dayEnds_34 ?_
    refine jr_iconst dX8_dayEnds_37 ic_2 ?_
    obtain ⟨g14, hf⟩ := so_gdE hf
    refine tr_iaload hT (show tm_k 4 = 50 from rfl) rfl (so_inE g14) dX8_dayEnds_38 ?_
    refine jr_icmp_ge (tgt := 110) dX8_dayEnds_39 rfl (fun c15 => ?_) (fun c15 => ?_)
    · have hf := so_t c15 hf
      refine jr_sub [1] rfl ?_
      exact h110 S13 hf
    · have hf := so_f c15 hf
      refine jr_aload_n dX8_dayEnds_42 rfl rfl jv_rr ?_
      refine jr_bipush dX8_dayEnds_43 bp_80 ?_
      refine jr_iload_n dX8_dayEnds_45 rfl rfl ?_
      refine jr_iadd dX8_dayEnds_46 ?_
      obtain ⟨g16, hf⟩ := so_gdE hf
      refine tr_iaload hT k_f1 rfl (so_inE g16) dX8_dayEnds_47 ?_
      refine jr_iconst dX8_dayEnds_48 ic_m1 ?_
      refine so_jE hf (fun J => ∀ (S17 : tm_S), J S17 = some sg' → jg_ (tm_j S0 sg0, tm_j S0 sg', .inl none) kX8_dayEnds 104 [(0, .ref (tm_a 0)), (1, .ref (tm_a f1)), (2, .int v12)] [] (tm_j S0 S17)) (fun S17 hf => ?_) (fun J18 hJ18 hf => ?_)
      · refine jr_iinc (v := v12 + (1 : Int32)) (lv' := [(0, .ref (tm_a 0)), (1, .ref (tm_a f1)), (2, .int (v12 + (1 : Int32)))]) dX8_dayEnds_104 rfl rfl (so_le rfl) rfl ?_
        refine jr_goto (tgt := 32) dX8_dayEnds_107 rfl ?_
        exact ih (v12 + (1 : Int32)) S17 hf
      · refine jr_icmp_ne (tgt := 55) dX8_dayEnds_49 rfl (fun c19 => ?_) (fun c19 => ?_)
        · have hf := so_f c19 hf
          refine jr_iconst dX8_dayEnds_55 ic_0 ?_
          refine jr_bipush dX8_dayEnds_56 bp_10 ?_
          refine jr_aload_n dX8_dayEnds_58 rfl rfl jv_rr ?_
          refine jr_bipush dX8_dayEnds_59 bp_80 ?_
          refine jr_iload_n dX8_dayEnds_61 rfl rfl ?_
          refine jr_iadd dX8_dayEnds_62 ?_
          obtain ⟨g20, hf⟩ := so_gdE hf
          refine tr_iaload hT k_f1 rfl (so_inE g20) dX8_dayEnds_63 ?_
          refine jr_imul dX8_dayEnds_64 ?_
          refine jr_iadd dX8_dayEnds_65 ?_
          refine jr_aload_n dX8_dayEnds_66 rfl rfl jv_rr ?_
          refine tr_getR (c := 42) hT (List.mem_of_getElem? (i := 11) rfl) fl_X8_49_23 dX8_dayEnds_67 ?_
          refine jr_iload_n dX8_dayEnds_70 rfl rfl ?_
          obtain ⟨g21, hf⟩ := so_gdE hf
          refine tr_aaload (g' := 43) hT (show tm_k 42 = 56 from rfl) rfl rfl (so_inE g21) dX8_dayEnds_71 ?_
          refine jr_iconst dX8_dayEnds_72 ic_0 ?_
          obtain ⟨g22, hf⟩ := so_gdE hf
          refine tr_iaload hT (tm_rk_42 (so_inE g21)) (tm_rl_42 (so_inE g21)) (so_inE g22) dX8_dayEnds_73 ?_
          refine jr_iadd dX8_dayEnds_74 ?_
          refine jr_istore_n (lv' := [(0, .ref (tm_a 0)), (1, .ref (tm_a f1)), (2, .int v12), (3, .int (((0 : Int32) + ((10 : Int32) * (S13 f1 ((80 : Int32) + v12).toNatClampNeg))) + (S13 (43 + v12.toNatClampNeg) (0 : Int32).toNatClampNeg)))]) dX8_dayEnds_75 rfl (so_le rfl) rfl ?_
          refine jr_aload_n dX8_dayEnds_76 rfl rfl jv_rr ?_
          refine jr_iload_n dX8_dayEnds_77 rfl rfl ?_
          refine jr_bipush dX8_dayEnds_78 bp_99 ?_
          refine jr_aload_n dX8_dayEnds_80 rfl rfl jv_rr ?_
          refine jr_iload_n dX8_dayEnds_81 rfl rfl ?_
          obtain ⟨g23, hf⟩ := so_gdE hf
          refine tr_iaload hT k_f1 rfl (so_inE g23) dX8_dayEnds_82 ?_
          refine jr_aload_n dX8_dayEnds_83 rfl rfl jv_rr ?_
          refine tr_getR (c := 470) hT (List.mem_of_getElem? (i := 21) rfl) fl_X8_79_23 dX8_dayEnds_84 ?_
          refine jr_iload_n dX8_dayEnds_87 rfl rfl ?_
          obtain ⟨g24, hf⟩ := so_gdE hf
          refine tr_iaload hT (show tm_k 470 = 50 from rfl) rfl (so_inE g24) dX8_dayEnds_88 ?_
          refine jr_iadd dX8_dayEnds_89 ?_
          refine jr_call (st := [.int (((0 : Int32) + ((10 : Int32) * (S13 f1 ((80 : Int32) + v12).toNatClampNeg))) + (S13 (43 + v12.toNatClampNeg) (0 : Int32).toNatClampNeg)), .ref (tm_a f1)]) lk_X8_249 (wX8_less (99 : Int32) ((S13 f1 (((0 : Int32) + ((10 : Int32) * (S13 f1 ((80 : Int32) + v12).toNatClampNeg))) + (S13 (43 + v12.toNatClampNeg) (0 : Int32).toNatClampNeg)).toNatClampNeg) + (S13 470 v12.toNatClampNeg)) hT S13 rfl) jk_r0 rfl rfl (so_le rfl) (so_le rfl) dX8_dayEnds_90 ?_
          obtain ⟨g25, hf⟩ := so_gdE hf
          refine tr_iastore hT k_f1 rfl (so_inE g25) dX8_dayEnds_93 ?_
          refine tm_let_e hf (fun S26 hf => ?_)
          refine jr_aload_n dX8_dayEnds_94 rfl rfl jv_rr ?_
          refine jr_bipush dX8_dayEnds_95 bp_92 ?_
          refine jr_iload_n dX8_dayEnds_97 rfl rfl ?_
          refine jr_iadd dX8_dayEnds_98 ?_
          refine jr_dup2 dX8_dayEnds_99 rfl rfl ?_
          obtain ⟨g27, hf⟩ := so_gdE hf
          refine tr_iaload hT k_f1 rfl (so_inE g27) dX8_dayEnds_100 ?_
          refine jr_iconst dX8_dayEnds_101 ic_1 ?_
          refine jr_iadd dX8_dayEnds_102 ?_
          obtain ⟨g28, hf⟩ := so_gdE hf
          refine tr_iastore hT k_f1 rfl (so_inE g28) dX8_dayEnds_103 ?_
          refine tm_let_e hf (fun S29 hf => ?_)
          refine jr_sub [0, 1, 2] rfl ?_
          exact hJ18 S29 hf
        · have hf := so_t c19 hf
          refine jr_goto (tgt := 104) dX8_dayEnds_52 rfl ?_
          exact hJ18 S13 hf
def fX8_dayEnds (a1 : Nat) (sg : tm_S) : Option tm_S :=
  LX8_dayEnds_2 a1 (fun (S11 : tm_S) =>
  LX8_dayEnds_32 a1 (fun (S31 : tm_S) =>
  so_gd (so_in (99 : Int32) (tm_len a1)) fun _ =>
  so_gd (so_in (99 : Int32) (tm_len a1)) fun _ =>
  tm_let (tm_up S31 a1 (99 : Int32).toNatClampNeg ((S31 a1 (99 : Int32).toNatClampNeg) + (1 : Int32))) fun S34 =>
  some S34) so_N (0 : Int32) S11) so_N (0 : Int32) sg
set_option maxHeartbeats 4000000 in
set_option maxRecDepth 100000 in
theorem wX8_dayEnds {sg' : tm_S} {S0 : so_St}  (a1 : Nat) (hT : tm_Sh S0) (sg : tm_S) (k_a1 : tm_k a1 = 50) (hf : fX8_dayEnds a1 sg = some sg') : jx_Sp 7 yX8_dayEnds (ws_ yX8_dayEnds cX8_dayEnds 4 (Option.none : Option Jvm.ClassFile.FieldType)) [.ref (tm_a 0), .ref (tm_a a1)] (tm_j S0 sg) (.inl none) (tm_j S0 sg') := by
  refine jx_of (plainFor_of_name (by decide)) (so_le rfl) ?_
  show jg_ ((tm_j S0 sg), (tm_j S0 sg'), .inl none) kX8_dayEnds 0 [(0, .ref (tm_a 0)), (1, .ref (tm_a a1))] [] (tm_j S0 sg)
  unfold fX8_dayEnds at hf
  refine jr_iconst dX8_dayEnds_0 ic_0 ?_
  refine jr_istore_n (lv' := [(0, .ref (tm_a 0)), (1, .ref (tm_a a1)), (2, .int (0 : Int32))]) dX8_dayEnds_1 rfl (so_le rfl) rfl ?_
  refine wX8_dayEnds_2 a1 hT k_a1 _ (fun S11 hf => ?_) so_N (0 : Int32) sg hf
  refine jr_iconst dX8_dayEnds_30 ic_0 ?_
  refine jr_istore_n (lv' := [(0, .ref (tm_a 0)), (1, .ref (tm_a a1)), (2, .int (0 : Int32))]) dX8_dayEnds_31 rfl (so_le rfl) rfl ?_
  refine wX8_dayEnds_32 a1 hT k_a1 _ (fun S31 hf => ?_) so_N (0 : Int32) S11 hf
  refine jr_aload_n dX8_dayEnds_110 rfl rfl jv_rr ?_
  refine jr_bipush dX8_dayEnds_111 bp_99 ?_
  refine jr_dup2 dX8_dayEnds_113 rfl rfl ?_
  obtain ⟨g32, hf⟩ := so_gdE hf
  refine tr_iaload hT k_a1 rfl (so_inE g32) dX8_dayEnds_114 ?_
  refine jr_iconst dX8_dayEnds_115 ic_1 ?_
  refine jr_iadd dX8_dayEnds_116 ?_
  obtain ⟨g33, hf⟩ := so_gdE hf
  refine tr_iastore hT k_a1 rfl (so_inE g33) dX8_dayEnds_117 ?_
  refine tm_let_e hf (fun S34 hf => ?_)
  obtain rfl := so_e1 hf
  exact jr_vret rfl dX8_dayEnds_118

/- X8_does -/
abbrev kX8_does : jx_K := (cX8_does, 4, RX8, 8, (Option.some Jvm.ClassFile.FieldType.boolean), "does", [])
def fX8_does (a1 : Nat) (a2 : Nat) (sg : tm_S) : Option (Int32 × tm_S) :=
  so_gd (so_in (1 : Int32) (tm_len a2)) fun _ =>
  so_gd (so_in (0 : Int32) (tm_len a2)) fun _ =>
  if (sg a2 (0 : Int32).toNatClampNeg) = (0 : Int32) then
  (so_gd (so_in (2 : Int32) (tm_len a2)) fun _ =>
  tm_b2 (fX8_puts2 a1 (sg a2 (1 : Int32).toNatClampNeg) (sg a2 (2 : Int32).toNatClampNeg) sg) fun r6 S7 =>
  so_gd (so_01 r6) fun _ =>
  some (r6, S7))
  else
  if (sg a2 (0 : Int32).toNatClampNeg) = (1 : Int32) then
  (so_gd (so_in ((80 : Int32) + (sg a2 (1 : Int32).toNatClampNeg)) (tm_len a1)) fun _ =>
  if (sg a1 ((80 : Int32) + (sg a2 (1 : Int32).toNatClampNeg)).toNatClampNeg) = (-1 : Int32) then
  (some ((0 : Int32), sg))
  else
  (so_gd (so_in ((80 : Int32) + (sg a2 (1 : Int32).toNatClampNeg)) (tm_len a1)) fun _ =>
  tm_let (tm_up sg a1 ((80 : Int32) + (sg a2 (1 : Int32).toNatClampNeg)).toNatClampNeg (-1 : Int32)) fun S13 =>
  so_gd (so_in ((92 : Int32) + (sg a2 (1 : Int32).toNatClampNeg)) (tm_len a1)) fun _ =>
  tm_let (tm_up S13 a1 ((92 : Int32) + (sg a2 (1 : Int32).toNatClampNeg)).toNatClampNeg (0 : Int32)) fun S15 =>
  some ((1 : Int32), S15)))
  else
  if (sg a2 (0 : Int32).toNatClampNeg) = (2 : Int32) then
  (so_gd (so_in ((86 : Int32) + (sg a2 (1 : Int32).toNatClampNeg)) (tm_len a1)) fun _ =>
  so_gd (so_in (2 : Int32) (tm_len a2)) fun _ =>
  if (sg a1 ((86 : Int32) + (sg a2 (1 : Int32).toNatClampNeg)).toNatClampNeg) = (sg a2 (2 : Int32).toNatClampNeg) then
  (some ((0 : Int32), sg))
  else
  (so_gd (so_in (2 : Int32) (tm_len a2)) fun _ =>
  so_gd (so_in ((86 : Int32) + (sg a2 (1 : Int32).toNatClampNeg)) (tm_len a1)) fun _ =>
  so_gd (so_in (98 : Int32) (tm_len a1)) fun _ =>
  if ((sg a2 (2 : Int32).toNatClampNeg) - (sg a1 ((86 : Int32) + (sg a2 (1 : Int32).toNatClampNeg)).toNatClampNeg)) ≤ (sg a1 (98 : Int32).toNatClampNeg) then
  (so_gd (so_in (98 : Int32) (tm_len a1)) fun _ =>
  so_gd (so_in (2 : Int32) (tm_len a2)) fun _ =>
  so_gd (so_in ((86 : Int32) + (sg a2 (1 : Int32).toNatClampNeg)) (tm_len a1)) fun _ =>
  so_gd (so_in (98 : Int32) (tm_len a1)) fun _ =>
  tm_let (tm_up sg a1 (98 : Int32).toNatClampNeg ((sg a1 (98 : Int32).toNatClampNeg) - ((sg a2 (2 : Int32).toNatClampNeg) - (sg a1 ((86 : Int32) + (sg a2 (1 : Int32).toNatClampNeg)).toNatClampNeg)))) fun S28 =>
  so_gd (so_in (2 : Int32) (tm_len a2)) fun _ =>
  so_gd (so_in ((86 : Int32) + (sg a2 (1 : Int32).toNatClampNeg)) (tm_len a1)) fun _ =>
  tm_let (tm_up S28 a1 ((86 : Int32) + (sg a2 (1 : Int32).toNatClampNeg)).toNatClampNeg (S28 a2 (2 : Int32).toNatClampNeg)) fun S31 =>
  some ((1 : Int32), S31))
  else
  (some ((0 : Int32), sg))))
  else
  (so_gd (so_in (99 : Int32) (tm_len a1)) fun _ =>
  if (sg a1 (99 : Int32).toNatClampNeg) < (500 : Int32) then
  ((fX8_dayEnds a1 sg).bind fun S36 =>
  some ((1 : Int32), S36))
  else
  (some ((0 : Int32), sg)))
set_option maxHeartbeats 4000000 in
set_option maxRecDepth 100000 in
theorem wX8_does {res : Int32} {sg' : tm_S} {S0 : so_St}  (a1 : Nat) (a2 : Nat) (hT : tm_Sh S0) (sg : tm_S) (k_a1 : tm_k a1 = 50) (k_a2 : tm_k a2 = 50) (hf : fX8_does a1 a2 sg = some (res, sg')) : jx_Sp 8 yX8_does (ws_ yX8_does cX8_does 4 (Option.some Jvm.ClassFile.FieldType.boolean)) [.ref (tm_a 0), .ref (tm_a a1), .ref (tm_a a2)] (tm_j S0 sg) (.inl (some (.int res))) (tm_j S0 sg') := by
  refine jx_of (plainFor_of_name (by decide)) (so_le rfl) ?_
  show jg_ ((tm_j S0 sg), (tm_j S0 sg'), .inl (some (.int res))) kX8_does 0 [(0, .ref (tm_a 0)), (1, .ref (tm_a a1)), (2, .ref (tm_a a2))] [] (tm_j S0 sg)
  unfold fX8_does at hf
  refine jr_aload_n dX8_does_0 rfl rfl jv_rr ?_
  refine jr_iconst dX8_does_1 ic_1 ?_
  obtain ⟨g1, hf⟩ := so_gdE hf
  refine tr_iaload hT k_a2 rfl (so_inE g1) dX8_does_2 ?_
  refine jr_istore_n (lv' := [(0, .ref (tm_a 0)), (1, .ref (tm_a a1)), (2, .ref (tm_a a2)), (3, .int (sg a2 (1 : Int32).toNatClampNeg))]) dX8_does_3 rfl (so_le rfl) rfl ?_
  refine jr_aload_n dX8_does_4 rfl rfl jv_rr ?_
  refine jr_iconst dX8_does_5 ic_0 ?_
  obtain ⟨g2, hf⟩ := so_gdE hf
  refine tr_iaload hT k_a2 rfl (so_inE g2) dX8_does_6 ?_
  by_cases c3 : (sg a2 (0 : Int32).toNatClampNeg) = (0 : Int32)
  · have hf := so_t c3 hf
    refine jr_tsIn (tgt := 32) (0 : Int32) c3 dX8_does_7 (by decide) (by decide) rfl rfl ?_
    refine jr_aload_n dX8_does_32 rfl rfl jv_rr ?_
    refine jr_aload_n dX8_does_33 rfl rfl jv_rr ?_
    refine jr_iload_n dX8_does_34 rfl rfl ?_
    refine jr_aload_n dX8_does_35 rfl rfl jv_rr ?_
    refine jr_iconst dX8_does_36 ic_2 ?_
    obtain ⟨g4, hf⟩ := so_gdE hf
    refine tr_iaload hT k_a2 rfl (so_inE g4) dX8_does_37 ?_
    obtain ⟨r6, S7, h5, hf⟩ := tm_b2E hf
    refine jr_callM (st := []) lk_X8_299_23 (wX8_puts2 a1 (sg a2 (1 : Int32).toNatClampNeg) (sg a2 (2 : Int32).toNatClampNeg) hT sg k_a1 h5) tm_k23 rfl rfl rfl (so_le rfl) (so_le rfl) dX8_does_38 ?_
    obtain ⟨g8, hf⟩ := so_gdE hf
    obtain ⟨rfl, rfl⟩ := so_e2 hf
    exact jr_iret rfl (so_01n (so_01E g8)) dX8_does_41
  · have hf := so_f c3 hf
    by_cases c9 : (sg a2 (0 : Int32).toNatClampNeg) = (1 : Int32)
    · have hf := so_t c9 hf
      refine jr_tsIn (tgt := 42) (1 : Int32) c9 dX8_does_7 (by decide) (by decide) rfl rfl ?_
      refine jr_aload_n dX8_does_42 rfl rfl jv_rr ?_
      refine jr_bipush dX8_does_43 bp_80 ?_
      refine jr_iload_n dX8_does_45 rfl rfl ?_
      refine jr_iadd dX8_does_46 ?_
      obtain ⟨g10, hf⟩ := so_gdE hf
      refine tr_iaload hT k_a1 rfl (so_inE g10) dX8_does_47 ?_
      refine jr_iconst dX8_does_48 ic_m1 ?_
      refine jr_icmp_ne (tgt := 54) dX8_does_49 rfl (fun c11 => ?_) (fun c11 => ?_)
      · have hf := so_f c11 hf
        refine jr_aload_n dX8_does_54 rfl rfl jv_rr ?_
        refine jr_bipush dX8_does_55 bp_80 ?_
        refine jr_iload_n dX8_does_57 rfl rfl ?_
        refine jr_iadd dX8_does_58 ?_
        refine jr_iconst dX8_does_59 ic_m1 ?_
        obtain ⟨g12, hf⟩ := so_gdE hf
        refine tr_iastore hT k_a1 rfl (so_inE g12) dX8_does_60 ?_
        refine tm_let_e hf (fun S13 hf => ?_)
        refine jr_aload_n dX8_does_61 rfl rfl jv_rr ?_
        refine jr_bipush dX8_does_62 bp_92 ?_
        refine jr_iload_n dX8_does_64 rfl rfl ?_
        refine jr_iadd dX8_does_65 ?_
        refine jr_iconst dX8_does_66 ic_0 ?_
        obtain ⟨g14, hf⟩ := so_gdE hf
        refine tr_iastore hT k_a1 rfl (so_inE g14) dX8_does_67 ?_
        refine tm_let_e hf (fun S15 hf => ?_)
        refine jr_iconst dX8_does_68 ic_1 ?_
        obtain ⟨rfl, rfl⟩ := so_e2 hf
        exact jr_iret rfl rfl dX8_does_69
      · have hf := so_t c11 hf
        refine jr_iconst dX8_does_52 ic_0 ?_
        obtain ⟨rfl, rfl⟩ := so_e2 hf
        exact jr_iret rfl rfl dX8_does_53
    · have hf := so_f c9 hf
      by_cases c16 : (sg a2 (0 : Int32).toNatClampNeg) = (2 : Int32)
      · have hf := so_t c16 hf
        refine jr_tsIn (tgt := 70) (2 : Int32) c16 dX8_does_7 (by decide) (by decide) rfl rfl ?_
        refine jr_aload_n dX8_does_70 rfl rfl jv_rr ?_
        refine jr_bipush dX8_does_71 bp_86 ?_
        refine jr_iload_n dX8_does_73 rfl rfl ?_
        refine jr_iadd dX8_does_74 ?_
        obtain ⟨g17, hf⟩ := so_gdE hf
        refine tr_iaload hT k_a1 rfl (so_inE g17) dX8_does_75 ?_
        refine jr_aload_n dX8_does_76 rfl rfl jv_rr ?_
        refine jr_iconst dX8_does_77 ic_2 ?_
        obtain ⟨g18, hf⟩ := so_gdE hf
        refine tr_iaload hT k_a2 rfl (so_inE g18) dX8_does_78 ?_
        refine jr_icmp_eq (tgt := 99) dX8_does_79 rfl (fun c19 => ?_) (fun c19 => ?_)
        · have hf := so_t c19 hf
          refine jr_iconst dX8_does_99 ic_0 ?_
          obtain ⟨rfl, rfl⟩ := so_e2 hf
          exact jr_iret rfl rfl dX8_does_100
        · have hf := so_f c19 hf
          refine jr_aload_n dX8_does_82 rfl rfl jv_rr ?_
          refine jr_iconst dX8_does_83 ic_2 ?_
          obtain ⟨g20, hf⟩ := so_gdE hf
          refine tr_iaload hT k_a2 rfl (so_inE g20) dX8_does_84 ?_
          refine jr_aload_n dX8_does_85 rfl rfl jv_rr ?_
          refine jr_bipush dX8_does_86 bp_86 ?_
          refine jr_iload_n dX8_does_88 rfl rfl ?_
          refine jr_iadd dX8_does_89 ?_
          obtain ⟨g21, hf⟩ := so_gdE hf
          refine tr_iaload hT k_a1 rfl (so_inE g21) dX8_does_90 ?_
          refine jr_isub dX8_does_91 ?_
          refine jr_aload_n dX8_does_92 rfl rfl jv_rr ?_
          refine jr_bipush dX8_does_93 bp_98 ?_
          obtain ⟨g22, hf⟩ := so_gdE hf
          refine tr_iaload hT k_a1 rfl (so_inE g22) dX8_does_95 ?_
          refine jr_icmp_le (tgt := 101) dX8_does_96 rfl (fun c23 => ?_) (fun c23 => ?_)
          · have hf := so_t c23 hf
            refine jr_aload_n dX8_does_101 rfl rfl jv_rr ?_
            refine jr_bipush dX8_does_102 bp_98 ?_
            refine jr_dup2 dX8_does_104 rfl rfl ?_
            obtain ⟨g24, hf⟩ := so_gdE hf
            refine tr_iaload hT k_a1 rfl (so_inE g24) dX8_does_105 ?_
            refine jr_aload_n dX8_does_106 rfl rfl jv_rr ?_
            refine jr_iconst dX8_does_107 ic_2 ?_
            obtain ⟨g25, hf⟩ := so_gdE hf
            refine tr_iaload hT k_a2 rfl (so_inE g25) dX8_does_108 ?_
            refine jr_aload_n dX8_does_109 rfl rfl jv_rr ?_
            refine jr_bipush dX8_does_110 bp_86 ?_
            refine jr_iload_n dX8_does_112 rfl rfl ?_
            refine jr_iadd dX8_does_113 ?_
            obtain ⟨g26, hf⟩ := so_gdE hf
            refine tr_iaload hT k_a1 rfl (so_inE g26) dX8_does_114 ?_
            refine jr_isub dX8_does_115 ?_
            refine jr_isub dX8_does_116 ?_
            obtain ⟨g27, hf⟩ := so_gdE hf
            refine tr_iastore hT k_a1 rfl (so_inE g27) dX8_does_117 ?_
            refine tm_let_e hf (fun S28 hf => ?_)
            refine jr_aload_n dX8_does_118 rfl rfl jv_rr ?_
            refine jr_bipush dX8_does_119 bp_86 ?_
            refine jr_iload_n dX8_does_121 rfl rfl ?_
            refine jr_iadd dX8_does_122 ?_
            refine jr_aload_n dX8_does_123 rfl rfl jv_rr ?_
            refine jr_iconst dX8_does_124 ic_2 ?_
            obtain ⟨g29, hf⟩ := so_gdE hf
            refine tr_iaload hT k_a2 rfl (so_inE g29) dX8_does_125 ?_
            obtain ⟨g30, hf⟩ := so_gdE hf
            refine tr_iastore hT k_a1 rfl (so_inE g30) dX8_does_126 ?_
            refine tm_let_e hf (fun S31 hf => ?_)
            refine jr_iconst dX8_does_127 ic_1 ?_
            obtain ⟨rfl, rfl⟩ := so_e2 hf
            exact jr_iret rfl rfl dX8_does_128
          · have hf := so_f c23 hf
            refine jr_iconst dX8_does_99 ic_0 ?_
            obtain ⟨rfl, rfl⟩ := so_e2 hf
            exact jr_iret rfl rfl dX8_does_100
      · have hf := so_f c16 hf
        refine jr_tsOut (tgt := 129) [(0 : Int32), (1 : Int32), (2 : Int32)] (by decide) (List.forall_mem_cons.mpr ⟨c3, List.forall_mem_cons.mpr ⟨c9, List.forall_mem_cons.mpr ⟨c16, fun _ h => by cases h⟩⟩⟩) dX8_does_7 rfl ?_
        refine jr_aload_n dX8_does_129 rfl rfl jv_rr ?_
        refine jr_bipush dX8_does_130 bp_99 ?_
        obtain ⟨g32, hf⟩ := so_gdE hf
        refine tr_iaload hT k_a1 rfl (so_inE g32) dX8_does_132 ?_
        refine jr_sipush dX8_does_133 sp_500 ?_
        refine jr_icmp_lt (tgt := 141) dX8_does_136 rfl (fun c33 => ?_) (fun c33 => ?_)
        · have hf := so_t c33 hf
          refine jr_aload_n dX8_does_141 rfl rfl jv_rr ?_
          refine jr_aload_n dX8_does_142 rfl rfl jv_rr ?_
          obtain ⟨S36, h34, hf⟩ := so_b hf
          refine jr_callM (st := []) lk_X8_302_23 (wX8_dayEnds a1 hT sg k_a1 h34) tm_k23 rfl rfl rfl (so_le rfl) (so_le rfl) dX8_does_143 ?_
          refine jr_iconst dX8_does_146 ic_1 ?_
          obtain ⟨rfl, rfl⟩ := so_e2 hf
          exact jr_iret rfl rfl dX8_does_147
        · have hf := so_f c33 hf
          refine jr_iconst dX8_does_139 ic_0 ?_
          obtain ⟨rfl, rfl⟩ := so_e2 hf
          exact jr_iret rfl rfl dX8_does_140

/- X8_goes -/
abbrev kX8_goes (d0 : Nat) : jx_K := (cX8_goes, 5, RX8, d0 + 9, (Option.none : Option Jvm.ClassFile.FieldType), "goes", [])
def LX8_goes_42 (rec : Int32 → Int32 → tm_S → Option tm_S) (f2 : Int32) (f3 : Int32) (k86 : tm_S → Option tm_S) : Nat → Int32 → tm_S → Option tm_S
  | 0, _, _ => none
  | n + 1, v25, S26 =>
    so_gd (so_in f3 80) fun _ =>
    so_gd (so_in (1 : Int32) 4) fun _ =>
    if (S26 (388 + f3.toNatClampNeg) (1 : Int32).toNatClampNeg) ≤ v25 then
    (k86 S26)
    else
    (if (200 : Int32) ≤ (S26 0 41) then
    (k86 S26)
    else
    (so_gd (so_in f3 80) fun _ =>
    so_gd (so_in (3 : Int32) 4) fun _ =>
    (rec (f3 + (1 : Int32)) (S26 (388 + f3.toNatClampNeg) (3 : Int32).toNatClampNeg) S26).bind fun S35 =>
    LX8_goes_42 rec f2 f3 k86 n (v25 + (1 : Int32)) S35))
set_option maxHeartbeats 4000000 in
set_option maxRecDepth 100000 in
theorem wX8_goes_42 {d0 : Nat} {sg' : tm_S} {S0 : so_St} {sg0 : tm_S}  {rec : Int32 → Int32 → tm_S → Option tm_S} (hrec : ∀ (a1 : Int32) (a2 : Int32), ∀ {S0 : so_St} (hT : tm_Sh S0) (sg : tm_S), ∀ {sg' : tm_S}, rec a1 a2 sg = some sg' → jx_Sp d0 yX8_goes (ws_ yX8_goes cX8_goes 5 (Option.none : Option Jvm.ClassFile.FieldType)) [.ref (tm_a 0), .int a1, .int a2] (tm_j S0 sg) (.inl none) (tm_j S0 sg')) (f2 : Int32) (f3 : Int32) (hT : tm_Sh S0)   (k86 : tm_S → Option tm_S) (h86 : ∀ (S36 : tm_S), k86 S36 = some sg' → jg_ (tm_j S0 sg0, tm_j S0 sg', .inl none) (kX8_goes d0) 86 [(0, .ref (tm_a 0)), (2, .int f2), (3, .int f3)] [] (tm_j S0 S36)) : ∀ (n : Nat) (v25 : Int32) (S26 : tm_S), LX8_goes_42 rec f2 f3 k86 n v25 S26 = some sg' → jg_ (tm_j S0 sg0, tm_j S0 sg', .inl none) (kX8_goes d0) 42 [(0, .ref (tm_a 0)), (2, .int f2), (3, .int f3), (4, .int v25)] [] (tm_j S0 S26) := by
  intro n
  induction n with
  | zero =>
    intro v25 S26 hf
    exact so_no hf
  | succ n ih =>
    intro v25 S26 hf
    rw [LX8_goes_42] at hf
    refine jr_iload dX8_goes_42 rfl ?_
    refine jr_aload_n dX8_goes_44 rfl rfl jv_rr ?_
    refine tr_getR (c := 387) hT (List.mem_of_getElem? (i := 18) rfl) fl_X8_70_23 dX8_goes_45 ?_
    refine jr_iload_n dX8_goes_48 rfl rfl ?_
    obtain ⟨g27, hf⟩ := so_gdE hf
    refine tr_aaload (g' := 388) hT (show tm_k 387 = 56 from rfl) rfl rfl (so_inE g27) dX8_goes_49 ?_
    refine jr_iconst dX8_goes_50 ic_1 ?_
    obtain ⟨g28, hf⟩ := so_gdE hf
    refine tr_iaload hT (tm_rk_387 (so_inE g27)) (tm_rl_387 (so_inE g27)) (so_inE g28) dX8_goes_51 ?_
    refine jr_icmp_ge (tgt := 86) dX8_goes_52 rfl (fun c29 => ?_) (fun c29 => ?_)
    · have hf := so_t c29 hf
      refine jr_sub [0, 1, 2] rfl ?_
      exact h86 S26 hf
    · have hf := so_f c29 hf
      refine jr_aload_n dX8_goes_55 rfl rfl jv_rr ?_
      refine tr_getI fl_X8_306_23 dX8_goes_56 ?_
      refine jr_sipush dX8_goes_59 sp_200 ?_
      refine jr_icmp_ge (tgt := 86) dX8_goes_62 rfl (fun c30 => ?_) (fun c30 => ?_)
      · have hf := so_t c30 hf
        refine jr_sub [0, 1, 2] rfl ?_
        exact h86 S26 hf
      · have hf := so_f c30 hf
        refine jr_aload_n dX8_goes_65 rfl rfl jv_rr ?_
        refine jr_iload_n dX8_goes_66 rfl rfl ?_
        refine jr_iconst dX8_goes_67 ic_1 ?_
        refine jr_iadd dX8_goes_68 ?_
        refine jr_aload_n dX8_goes_69 rfl rfl jv_rr ?_
        refine tr_getR (c := 387) hT (List.mem_of_getElem? (i := 18) rfl) fl_X8_70_23 dX8_goes_70 ?_
        refine jr_iload_n dX8_goes_73 rfl rfl ?_
        obtain ⟨g31, hf⟩ := so_gdE hf
        refine tr_aaload (g' := 388) hT (show tm_k 387 = 56 from rfl) rfl rfl (so_inE g31) dX8_goes_74 ?_
        refine jr_iconst dX8_goes_75 ic_3 ?_
        obtain ⟨g32, hf⟩ := so_gdE hf
        refine tr_iaload hT (tm_rk_387 (so_inE g31)) (tm_rl_387 (so_inE g31)) (so_inE g32) dX8_goes_76 ?_
        obtain ⟨S35, h33, hf⟩ := so_b hf
        refine jr_callM (st := []) lk_X8_309_23 (hrec (f3 + (1 : Int32)) (S26 (388 + f3.toNatClampNeg) (3 : Int32).toNatClampNeg) hT S26 h33) tm_k23 rfl rfl rfl (so_le rfl) (show d0 + 0 + 1 ≤ d0 + 9 by omega) dX8_goes_77 ?_
        refine jr_iinc (v := v25 + (1 : Int32)) (lv' := [(0, .ref (tm_a 0)), (2, .int f2), (3, .int f3), (4, .int (v25 + (1 : Int32)))]) dX8_goes_80 rfl rfl (so_le rfl) rfl ?_
        refine jr_goto (tgt := 42) dX8_goes_83 rfl ?_
        exact ih (v25 + (1 : Int32)) S35 hf
def LX8_goes_2 (rec : Int32 → Int32 → tm_S → Option tm_S) (f2 : Int32) : Nat → Int32 → tm_S → Option tm_S
  | 0, _, _ => none
  | n + 1, v1, S2 =>
    if f2 ≤ v1 then
    (some S2)
    else
    (if (200 : Int32) ≤ (S2 0 41) then
    (some S2)
    else
    (tm_let (tm_up S2 0 41 ((S2 0 41) + (1 : Int32))) fun S5 =>
    so_gd (so_in v1 80) fun _ =>
    so_gd (so_in (0 : Int32) 4) fun _ =>
    so_j (κ := tm_S → Option tm_S) (ρ := Option tm_S) (fun (S8 : tm_S) =>
    so_gd (so_in v1 80) fun _ =>
    so_gd (so_in (3 : Int32) 4) fun _ =>
    LX8_goes_2 rec f2 n (S8 (388 + v1.toNatClampNeg) (3 : Int32).toNatClampNeg) S8)
    (fun J9 =>
    if (S5 (388 + v1.toNatClampNeg) (0 : Int32).toNatClampNeg) = (4 : Int32) then
    (LX8_goes_42 rec f2 v1 (fun (S37 : tm_S) =>
    J9 S37) so_N (0 : Int32) S5)
    else
    (so_gd (so_in v1 80) fun _ =>
    tm_b2 (fX8_does 468 (388 + v1.toNatClampNeg) S5) fun r15 S16 =>
    so_j (κ := Int32 → Option tm_S) (ρ := Option tm_S) (fun (v17 : Int32) =>
    tm_let (tm_up S16 0 42 ((S16 0 42) + v17)) fun S19 =>
    so_j (κ := Int32 → Option tm_S) (ρ := Option tm_S) (fun (v20 : Int32) =>
    tm_let (tm_up S19 0 38 ((S19 0 38) + v20)) fun S22 =>
    J9 S22)
    (fun J21 =>
    if r15 = (0 : Int32) then
    (J21 (1 : Int32))
    else
    (J21 (0 : Int32))))
    (fun J18 =>
    if r15 = (0 : Int32) then
    (J18 (0 : Int32))
    else
    (J18 (1 : Int32)))))))
set_option maxHeartbeats 4000000 in
set_option maxRecDepth 100000 in
theorem wX8_goes_2 {d0 : Nat} {sg' : tm_S} {S0 : so_St} {sg0 : tm_S}  {rec : Int32 → Int32 → tm_S → Option tm_S} (hrec : ∀ (a1 : Int32) (a2 : Int32), ∀ {S0 : so_St} (hT : tm_Sh S0) (sg : tm_S), ∀ {sg' : tm_S}, rec a1 a2 sg = some sg' → jx_Sp d0 yX8_goes (ws_ yX8_goes cX8_goes 5 (Option.none : Option Jvm.ClassFile.FieldType)) [.ref (tm_a 0), .int a1, .int a2] (tm_j S0 sg) (.inl none) (tm_j S0 sg')) (f2 : Int32) (hT : tm_Sh S0)   : ∀ (n : Nat) (v1 : Int32) (S2 : tm_S), LX8_goes_2 rec f2 n v1 S2 = some sg' → jg_ (tm_j S0 sg0, tm_j S0 sg', .inl none) (kX8_goes d0) 2 [(0, .ref (tm_a 0)), (2, .int f2), (3, .int v1)] [] (tm_j S0 S2) := by
  intro n
  induction n with
  | zero =>
    intro v1 S2 hf
    exact so_no hf
  | succ n ih =>
    intro v1 S2 hf
    rw [LX8_goes_2] at hf
    refine jr_iload_n dX8_goes_2 rfl rfl ?_
    refine jr_iload_n dX8_goes_3 rfl rfl ?_
    refine jr_icmp_ge (tgt := 155) dX8_goes_4 rfl (fun c3 => ?_) (fun c3 => ?_)
    · have hf := so_t c3 hf
      obtain rfl := so_e1 hf
      exact jr_vret rfl dX8_goes_155
    · have hf := so_f c3 hf
      refine jr_aload_n dX8_goes_7 rfl rfl jv_rr ?_
      refine tr_getI fl_X8_306_23 dX8_goes_8 ?_
      refine jr_sipush dX8_goes_11 sp_200 ?_
      refine jr_icmp_ge (tgt := 155) dX8_goes_14 rfl (fun c4 => ?_) (fun c4 => ?_)
      · have hf := so_t c4 hf
        obtain rfl := so_e1 hf
        exact jr_vret rfl dX8_goes_155
      · have hf := so_f c4 hf
        refine jr_aload_n dX8_goes_17 rfl rfl jv_rr ?_
        refine jr_dup dX8_goes_18 rfl ?_
        refine tr_getI fl_X8_306_23 dX8_goes_19 ?_
        refine jr_iconst dX8_goes_22 ic_1 ?_
        refine jr_iadd dX8_goes_23 ?_
        refine tr_putI fp_X8_306_23 dX8_goes_24 ?_
        refine tm_let_e hf (fun S5 hf => ?_)
        refine jr_aload_n dX8_goes_27 rfl rfl jv_rr ?_
        refine tr_getR (c := 387) hT (List.mem_of_getElem? (i := 18) rfl) fl_X8_70_23 dX8_goes_28 ?_
        refine jr_iload_n dX8_goes_31 rfl rfl ?_
        obtain ⟨g6, hf⟩ := so_gdE hf
        refine tr_aaload (g' := 388) hT (show tm_k 387 = 56 from rfl) rfl rfl (so_inE g6) dX8_goes_32 ?_
        refine jr_iconst dX8_goes_33 ic_0 ?_
        obtain ⟨g7, hf⟩ := so_gdE hf
        refine tr_iaload hT (tm_rk_387 (so_inE g6)) (tm_rl_387 (so_inE g6)) (so_inE g7) dX8_goes_34 ?_
        refine jr_iconst dX8_goes_35 ic_4 ?_
        refine so_jE hf (fun J => ∀ (S8 : tm_S), J S8 = some sg' → jg_ (tm_j S0 sg0, tm_j S0 sg', .inl none) (kX8_goes d0) 143 [(0, .ref (tm_a 0)), (2, .int f2), (3, .int v1)] [] (tm_j S0 S8)) (fun S8 hf => ?_) (fun J9 hJ9 hf => ?_)
        · refine jr_aload_n dX8_goes_143 rfl rfl jv_rr ?_
          refine tr_getR (c := 387) hT (List.mem_of_getElem? (i := 18) rfl) fl_X8_70_23 dX8_goes_144 ?_
          refine jr_iload_n dX8_goes_147 rfl rfl ?_
          obtain ⟨g10, hf⟩ := so_gdE hf
          refine tr_aaload (g' := 388) hT (show tm_k 387 = 56 from rfl) rfl rfl (so_inE g10) dX8_goes_148 ?_
          refine jr_iconst dX8_goes_149 ic_3 ?_
          obtain ⟨g11, hf⟩ := so_gdE hf
          refine tr_iaload hT (tm_rk_387 (so_inE g10)) (tm_rl_387 (so_inE g10)) (so_inE g11) dX8_goes_150 ?_
          refine jr_istore_n (lv' := [(0, .ref (tm_a 0)), (2, .int f2), (3, .int (S8 (388 + v1.toNatClampNeg) (3 : Int32).toNatClampNeg))]) dX8_goes_151 rfl (so_le rfl) rfl ?_
          refine jr_goto (tgt := 2) dX8_goes_152 rfl ?_
          exact ih (S8 (388 + v1.toNatClampNeg) (3 : Int32).toNatClampNeg) S8 hf
        · refine jr_icmp_ne (tgt := 89) dX8_goes_36 rfl (fun c12 => ?_) (fun c12 => ?_)
          · have hf := so_f c12 hf
            refine jr_aload_n dX8_goes_89 rfl rfl jv_rr ?_
            refine jr_aload_n dX8_goes_90 rfl rfl jv_rr ?_
            refine tr_getR (c := 468) hT (List.mem_of_getElem? (i := 19) rfl) fl_X8_73_23 dX8_goes_91 ?_
            refine jr_aload_n dX8_goes_94 rfl rfl jv_rr ?_
            refine tr_getR (c := 387) hT (List.mem_of_getElem? (i := 18) rfl) fl_X8_70_23 dX8_goes_95 ?_
            refine jr_iload_n dX8_goes_98 rfl rfl ?_
            obtain ⟨g13, hf⟩ := so_gdE hf
            refine tr_aaload (g' := 388) hT (show tm_k 387 = 56 from rfl) rfl rfl (so_inE g13) dX8_goes_99 ?_
            obtain ⟨r15, S16, h14, hf⟩ := tm_b2E hf
            refine jr_callM (st := []) lk_X8_312_23 (wX8_does 468 (388 + v1.toNatClampNeg) hT S5 (show tm_k 468 = 50 from rfl) (tm_rk_387 (so_inE g13)) h14) tm_k23 rfl rfl rfl (so_le rfl) (show 8 + 1 ≤ d0 + 9 by omega) dX8_goes_100 ?_
            refine jr_istore (lv' := [(0, .ref (tm_a 0)), (2, .int f2), (3, .int v1), (4, .int r15)]) dX8_goes_103 (so_le rfl) rfl ?_
            refine jr_aload_n dX8_goes_105 rfl rfl jv_rr ?_
            refine jr_dup dX8_goes_106 rfl ?_
            refine tr_getI fl_X8_316_23 dX8_goes_107 ?_
            refine jr_iload dX8_goes_110 rfl ?_
            refine so_jE hf (fun J => ∀ (v17 : Int32), J v17 = some sg' → jg_ (tm_j S0 sg0, tm_j S0 sg', .inl none) (kX8_goes d0) 120 [(0, .ref (tm_a 0)), (2, .int f2), (3, .int v1), (4, .int r15)] [.int v17, .int (S16 0 42), .ref (tm_a 0)] (tm_j S0 S16)) (fun v17 hf => ?_) (fun J18 hJ18 hf => ?_)
            · refine jr_iadd dX8_goes_120 ?_
              refine tr_putI fp_X8_316_23 dX8_goes_121 ?_
              refine tm_let_e hf (fun S19 hf => ?_)
              refine jr_aload_n dX8_goes_124 rfl rfl jv_rr ?_
              refine jr_dup dX8_goes_125 rfl ?_
              refine tr_getI fl_X8_215_23 dX8_goes_126 ?_
              refine jr_iload dX8_goes_129 rfl ?_
              refine so_jE hf (fun J => ∀ (v20 : Int32), J v20 = some sg' → jg_ (tm_j S0 sg0, tm_j S0 sg', .inl none) (kX8_goes d0) 139 [(0, .ref (tm_a 0)), (2, .int f2), (3, .int v1)] [.int v20, .int (S19 0 38), .ref (tm_a 0)] (tm_j S0 S19)) (fun v20 hf => ?_) (fun J21 hJ21 hf => ?_)
              · refine jr_iadd dX8_goes_139 ?_
                refine tr_putI fp_X8_215_23 dX8_goes_140 ?_
                refine tm_let_e hf (fun S22 hf => ?_)
                exact hJ9 S22 hf
              · refine jr_if_eq (tgt := 138) dX8_goes_131 rfl (fun c23 => ?_) (fun c23 => ?_)
                · have hf := so_t c23 hf
                  refine jr_iconst dX8_goes_138 ic_1 ?_
                  refine jr_sub [0, 1, 2] rfl ?_
                  exact hJ21 (1 : Int32) hf
                · have hf := so_f c23 hf
                  refine jr_iconst dX8_goes_134 ic_0 ?_
                  refine jr_goto (tgt := 139) dX8_goes_135 rfl ?_
                  refine jr_sub [0, 1, 2] rfl ?_
                  exact hJ21 (0 : Int32) hf
            · refine jr_if_eq (tgt := 119) dX8_goes_112 rfl (fun c24 => ?_) (fun c24 => ?_)
              · have hf := so_t c24 hf
                refine jr_iconst dX8_goes_119 ic_0 ?_
                exact hJ18 (0 : Int32) hf
              · have hf := so_f c24 hf
                refine jr_iconst dX8_goes_115 ic_1 ?_
                refine jr_goto (tgt := 120) dX8_goes_116 rfl ?_
                exact hJ18 (1 : Int32) hf
          · have hf := so_t c12 hf
            refine jr_iconst dX8_goes_39 ic_0 ?_
            refine jr_istore (lv' := [(0, .ref (tm_a 0)), (2, .int f2), (3, .int v1), (4, .int (0 : Int32))]) dX8_goes_40 (so_le rfl) rfl ?_
            refine wX8_goes_42 hrec f2 v1 hT _ (fun S37 hf => ?_) so_N (0 : Int32) S5 hf
            refine jr_goto (tgt := 143) dX8_goes_86 rfl ?_
            exact hJ9 S37 hf
def fX8_goes (rec : Int32 → Int32 → tm_S → Option tm_S) (a1 : Int32) (a2 : Int32) (sg : tm_S) : Option tm_S :=
  LX8_goes_2 rec a2 so_N a1 sg
set_option maxHeartbeats 4000000 in
set_option maxRecDepth 100000 in
theorem wX8_goes {d0 : Nat} {sg' : tm_S} {S0 : so_St} {rec : Int32 → Int32 → tm_S → Option tm_S} (hrec : ∀ (a1 : Int32) (a2 : Int32), ∀ {S0 : so_St} (hT : tm_Sh S0) (sg : tm_S), ∀ {sg' : tm_S}, rec a1 a2 sg = some sg' → jx_Sp d0 yX8_goes (ws_ yX8_goes cX8_goes 5 (Option.none : Option Jvm.ClassFile.FieldType)) [.ref (tm_a 0), .int a1, .int a2] (tm_j S0 sg) (.inl none) (tm_j S0 sg')) (a1 : Int32) (a2 : Int32) (hT : tm_Sh S0) (sg : tm_S)  (hf : fX8_goes rec a1 a2 sg = some sg') : jx_Sp (d0 + 9) yX8_goes (ws_ yX8_goes cX8_goes 5 (Option.none : Option Jvm.ClassFile.FieldType)) [.ref (tm_a 0), .int a1, .int a2] (tm_j S0 sg) (.inl none) (tm_j S0 sg') := by
  refine jx_of (plainFor_of_name (by decide)) (so_le rfl) ?_
  show jg_ ((tm_j S0 sg), (tm_j S0 sg'), .inl none) (kX8_goes d0) 0 [(0, .ref (tm_a 0)), (1, .int a1), (2, .int a2)] [] (tm_j S0 sg)
  unfold fX8_goes at hf
  refine jr_iload_n dX8_goes_0 rfl rfl ?_
  refine jr_istore_n (lv' := [(0, .ref (tm_a 0)), (1, .int a1), (2, .int a2), (3, .int a1)]) dX8_goes_1 rfl (so_le rfl) rfl ?_
  refine jr_sub [0, 2, 3] rfl ?_
  refine wX8_goes_2 hrec a2 hT so_N a1 sg hf

/- C:X8_readsStep -/
def fcX8_readsStep : Nat → tm_S → Option tm_S
  | 0 => fun _ => none
  | n + 1 => fX8_readsStep (fcX8_readsStep n)
theorem wcX8_readsStep : ∀ (n : Nat), ∀ {S0 : so_St} (hT : tm_Sh S0) (sg : tm_S), ∀ {sg' : tm_S}, fcX8_readsStep n sg = some sg' → jx_Sp (5 * n) yX8_readsStep (ws_ yX8_readsStep cX8_readsStep 3 (Option.none : Option Jvm.ClassFile.FieldType)) [.ref (tm_a 0)] (tm_j S0 sg) (.inl none) (tm_j S0 sg') := by
  intro n
  induction n with
  | zero =>
    intros
    rename_i hf
    exact so_no hf
  | succ n ih =>
    exact fun hT sg _ hf => wX8_readsStep ih hT sg hf


/- C:X8_goes -/
def fcX8_goes : Nat → Int32 → Int32 → tm_S → Option tm_S
  | 0 => fun _ _ _ => none
  | n + 1 => fX8_goes (fcX8_goes n)
theorem wcX8_goes : ∀ (n : Nat), ∀ (a1 : Int32) (a2 : Int32), ∀ {S0 : so_St} (hT : tm_Sh S0) (sg : tm_S), ∀ {sg' : tm_S}, fcX8_goes n a1 a2 sg = some sg' → jx_Sp (9 * n) yX8_goes (ws_ yX8_goes cX8_goes 5 (Option.none : Option Jvm.ClassFile.FieldType)) [.ref (tm_a 0), .int a1, .int a2] (tm_j S0 sg) (.inl none) (tm_j S0 sg') := by
  intro n
  induction n with
  | zero =>
    intros
    rename_i hf
    exact so_no hf
  | succ n ih =>
    exact fun a1 a2 _ hT sg _ hf => wX8_goes ih a1 a2 hT sg hf


/- X8_work -/
abbrev kX8_work : jx_K := (cX8_work, 2, RX8, 109, (Option.some Jvm.ClassFile.FieldType.int), "work", [])
def LX8_work_72  (k101 : tm_S → Option (Int32 × tm_S)) : Nat → tm_S → Option (Int32 × tm_S)
  | 0, _ => none
  | n + 1, S13 =>
    if (S13 0 5) = (0 : Int32) then
    (if (S13 0 2) ≤ (S13 0 4) then
    (k101 S13)
    else
    ((fcX8_readsStep 12 S13).bind fun S18 =>
    (fX8_blanks S18).bind fun S21 =>
    LX8_work_72 k101 n S21))
    else
    (k101 S13)
set_option maxHeartbeats 4000000 in
set_option maxRecDepth 100000 in
theorem wX8_work_72 {res : Int32} {sg' : tm_S} {S0 : so_St} {sg0 : tm_S}    (hT : tm_Sh S0)   (k101 : tm_S → Option (Int32 × tm_S)) (h101 : ∀ (S22 : tm_S), k101 S22 = some (res, sg') → jg_ (tm_j S0 sg0, tm_j S0 sg', .inl (some (.int res))) kX8_work 101 [(0, .ref (tm_a 0))] [] (tm_j S0 S22)) : ∀ (n : Nat) (S13 : tm_S), LX8_work_72 k101 n S13 = some (res, sg') → jg_ (tm_j S0 sg0, tm_j S0 sg', .inl (some (.int res))) kX8_work 72 [(0, .ref (tm_a 0))] [] (tm_j S0 S13) := by
  intro n
  induction n with
  | zero =>
    intro S13 hf
    exact so_no hf
  | succ n ih =>
    intro S13 hf
    rw [LX8_work_72] at hf
    refine jr_aload_n dX8_work_72 rfl rfl jv_rr ?_
    refine tr_getI fl_X8_122_23 dX8_work_73 ?_
    refine jr_if_ne (tgt := 101) dX8_work_76 rfl (fun c14 => ?_) (fun c14 => ?_)
    · have hf := so_f c14 hf
      exact h101 S13 hf
    · have hf := so_t c14 hf
      refine jr_aload_n dX8_work_79 rfl rfl jv_rr ?_
      refine tr_getI fl_X8_115_23 dX8_work_80 ?_
      refine jr_aload_n dX8_work_83 rfl rfl jv_rr ?_
      refine tr_getI fl_X8_112_23 dX8_work_84 ?_
      refine jr_icmp_ge (tgt := 101) dX8_work_87 rfl (fun c15 => ?_) (fun c15 => ?_)
      · have hf := so_t c15 hf
        exact h101 S13 hf
      · have hf := so_f c15 hf
        refine jr_aload_n dX8_work_90 rfl rfl jv_rr ?_
        obtain ⟨S18, h16, hf⟩ := so_b hf
        refine jr_callM (st := []) lk_X8_265_23 (wcX8_readsStep 12 hT S13 h16) tm_k23 rfl rfl rfl (so_le rfl) (so_le rfl) dX8_work_91 ?_
        refine jr_aload_n dX8_work_94 rfl rfl jv_rr ?_
        obtain ⟨S21, h19, hf⟩ := so_b hf
        refine jr_callM (st := []) lk_X8_128_23 (wX8_blanks hT S18 h19) tm_k23 rfl rfl rfl (so_le rfl) (so_le rfl) dX8_work_95 ?_
        refine jr_goto (tgt := 72) dX8_work_98 rfl ?_
        exact ih S21 hf
def fX8_work (a1 : Int32) (sg : tm_S) : Option (Int32 × tm_S) :=
  tm_let (tm_up sg 0 0 (0 : Int32)) fun S1 =>
  so_j (κ := Int32 → Option (Int32 × tm_S)) (ρ := Option (Int32 × tm_S)) (fun (v2 : Int32) =>
  tm_b2 (fX8_bad v2 (1 : Int32) (1 : Int32) S1) fun r5 S6 =>
  if r5 = (0 : Int32) then
  (if (S6 0 37) = (16 : Int32) then
  (tm_let (tm_up S6 0 1 (0 : Int32)) fun S40 =>
  tm_let (tm_up S40 0 3 (-1 : Int32)) fun S41 =>
  some ((-20 : Int32), S41))
  else
  ((fX8_starts a1 S6).bind fun S11 =>
  tm_let (tm_up S11 0 30 (0 : Int32)) fun S12 =>
  LX8_work_72 (fun (S23 : tm_S) =>
  if (S23 0 5) = (0 : Int32) then
  (tm_let (tm_up S23 0 3 (-1 : Int32)) fun S25 =>
  so_gd (so_in (S25 0 37) 16) fun _ =>
  (fX8_copies 468 (472 + (S25 0 37).toNatClampNeg) S25).bind fun S29 =>
  tm_let (tm_up S29 0 37 ((S29 0 37) + (1 : Int32))) fun S30 =>
  tm_let (tm_up S30 0 41 (0 : Int32)) fun S31 =>
  tm_let (tm_up S31 0 42 (0 : Int32)) fun S32 =>
  tm_let (tm_up S32 0 38 (0 : Int32)) fun S33 =>
  (fcX8_goes 12 (0 : Int32) (S33 0 30) S33).bind fun S36 =>
  some ((S36 0 42), S36))
  else
  (tm_b2 (fX8_ends S23) fun r38 S39 =>
  some (r38, S39))) so_N S12))
  else
  (some ((0 : Int32), S6)))
  (fun J3 =>
  so_j (κ := Unit → Option (Int32 × tm_S)) (ρ := Option (Int32 × tm_S)) (fun (_u : Unit) =>
  J3 (1 : Int32))
  (fun J42 =>
  if (fX8_in a1 (0 : Int32) (S1 0 1)) = (0 : Int32) then
  (J42 ())
  else
  (if a1 ≤ (150 : Int32) then
  (J3 (0 : Int32))
  else
  (J42 ()))))
set_option maxHeartbeats 4000000 in
set_option maxRecDepth 100000 in
theorem wX8_work {res : Int32} {sg' : tm_S} {S0 : so_St}  (a1 : Int32) (hT : tm_Sh S0) (sg : tm_S)  (hf : fX8_work a1 sg = some (res, sg')) : jx_Sp 109 yX8_work (ws_ yX8_work cX8_work 2 (Option.some Jvm.ClassFile.FieldType.int)) [.ref (tm_a 0), .int a1] (tm_j S0 sg) (.inl (some (.int res))) (tm_j S0 sg') := by
  refine jx_of (plainFor_of_name (by decide)) (so_le rfl) ?_
  show jg_ ((tm_j S0 sg), (tm_j S0 sg'), .inl (some (.int res))) kX8_work 0 [(0, .ref (tm_a 0)), (1, .int a1)] [] (tm_j S0 sg)
  unfold fX8_work at hf
  refine jr_aload_n dX8_work_0 rfl rfl jv_rr ?_
  refine jr_iconst dX8_work_1 ic_0 ?_
  refine tr_putI fp_X8_106_23 dX8_work_2 ?_
  refine tm_let_e hf (fun S1 hf => ?_)
  refine jr_aload_n dX8_work_5 rfl rfl jv_rr ?_
  refine jr_iload_n dX8_work_6 rfl rfl ?_
  refine jr_iconst dX8_work_7 ic_0 ?_
  refine jr_aload_n dX8_work_8 rfl rfl jv_rr ?_
  refine tr_getI fl_X8_109_23 dX8_work_9 ?_
  refine jr_call (st := [.ref (tm_a 0)]) lk_X8_140 (wX8_in a1 (0 : Int32) (S1 0 1) hT S1 rfl) jk_r0 rfl rfl (so_le rfl) (so_le rfl) dX8_work_12 ?_
  refine so_jE hf (fun J => ∀ (v2 : Int32), J v2 = some (res, sg') → jg_ (tm_j S0 sg, tm_j S0 sg', .inl (some (.int res))) kX8_work 30 [(0, .ref (tm_a 0)), (1, .int a1)] [.int v2, .ref (tm_a 0)] (tm_j S0 S1)) (fun v2 hf => ?_) (fun J3 hJ3 hf => ?_)
  · refine jr_iconst dX8_work_30 ic_1 ?_
    refine jr_iconst dX8_work_31 ic_1 ?_
    obtain ⟨r5, S6, h4, hf⟩ := tm_b2E hf
    refine jr_callM (st := []) lk_X8_189_23 (wX8_bad v2 (1 : Int32) (1 : Int32) hT S1 h4) tm_k23 rfl rfl rfl (so_le rfl) (so_le rfl) dX8_work_32 ?_
    refine jr_if_eq (tgt := 40) dX8_work_35 rfl (fun c7 => ?_) (fun c7 => ?_)
    · have hf := so_t c7 hf
      refine jr_aload_n dX8_work_40 rfl rfl jv_rr ?_
      refine tr_getI fl_X8_212_23 dX8_work_41 ?_
      refine jr_bipush dX8_work_44 bp_16 ?_
      refine jr_icmp_ne (tgt := 62) dX8_work_46 rfl (fun c8 => ?_) (fun c8 => ?_)
      · have hf := so_f c8 hf
        refine jr_aload_n dX8_work_62 rfl rfl jv_rr ?_
        refine jr_iload_n dX8_work_63 rfl rfl ?_
        obtain ⟨S11, h9, hf⟩ := so_b hf
        refine jr_callM (st := []) lk_X8_193_23 (wX8_starts a1 hT S6 h9) tm_k23 rfl rfl rfl (so_le rfl) (so_le rfl) dX8_work_64 ?_
        refine jr_aload_n dX8_work_67 rfl rfl jv_rr ?_
        refine jr_iconst dX8_work_68 ic_0 ?_
        refine tr_putI fp_X8_262_23 dX8_work_69 ?_
        refine tm_let_e hf (fun S12 hf => ?_)
        refine jr_sub [0] rfl ?_
        refine wX8_work_72 hT _ (fun S23 hf => ?_) so_N S12 hf
        refine jr_aload_n dX8_work_101 rfl rfl jv_rr ?_
        refine tr_getI fl_X8_122_23 dX8_work_102 ?_
        refine jr_if_eq (tgt := 113) dX8_work_105 rfl (fun c24 => ?_) (fun c24 => ?_)
        · have hf := so_t c24 hf
          refine jr_aload_n dX8_work_113 rfl rfl jv_rr ?_
          refine jr_iconst dX8_work_114 ic_m1 ?_
          refine tr_putI fp_X8_9_23 dX8_work_115 ?_
          refine tm_let_e hf (fun S25 hf => ?_)
          refine jr_aload_n dX8_work_118 rfl rfl jv_rr ?_
          refine tr_getR (c := 468) hT (List.mem_of_getElem? (i := 19) rfl) fl_X8_73_23 dX8_work_119 ?_
          refine jr_aload_n dX8_work_122 rfl rfl jv_rr ?_
          refine tr_getR (c := 471) hT (List.mem_of_getElem? (i := 22) rfl) fl_X8_82_23 dX8_work_123 ?_
          refine jr_aload_n dX8_work_126 rfl rfl jv_rr ?_
          refine tr_getI fl_X8_212_23 dX8_work_127 ?_
          obtain ⟨g26, hf⟩ := so_gdE hf
          refine tr_aaload (g' := 472) hT (show tm_k 471 = 56 from rfl) rfl rfl (so_inE g26) dX8_work_130 ?_
          obtain ⟨S29, h27, hf⟩ := so_b hf
          refine jr_call (st := []) lk_X8_319 (wX8_copies 468 (472 + (S25 0 37).toNatClampNeg) hT S25 (show tm_k 468 = 50 from rfl) (tm_rk_471 (so_inE g26)) h27) jk_r0 rfl rfl (so_le rfl) (so_le rfl) dX8_work_131 ?_
          refine jr_aload_n dX8_work_134 rfl rfl jv_rr ?_
          refine jr_dup dX8_work_135 rfl ?_
          refine tr_getI fl_X8_212_23 dX8_work_136 ?_
          refine jr_iconst dX8_work_139 ic_1 ?_
          refine jr_iadd dX8_work_140 ?_
          refine tr_putI fp_X8_212_23 dX8_work_141 ?_
          refine tm_let_e hf (fun S30 hf => ?_)
          refine jr_aload_n dX8_work_144 rfl rfl jv_rr ?_
          refine jr_iconst dX8_work_145 ic_0 ?_
          refine tr_putI fp_X8_306_23 dX8_work_146 ?_
          refine tm_let_e hf (fun S31 hf => ?_)
          refine jr_aload_n dX8_work_149 rfl rfl jv_rr ?_
          refine jr_iconst dX8_work_150 ic_0 ?_
          refine tr_putI fp_X8_316_23 dX8_work_151 ?_
          refine tm_let_e hf (fun S32 hf => ?_)
          refine jr_aload_n dX8_work_154 rfl rfl jv_rr ?_
          refine jr_iconst dX8_work_155 ic_0 ?_
          refine tr_putI fp_X8_215_23 dX8_work_156 ?_
          refine tm_let_e hf (fun S33 hf => ?_)
          refine jr_aload_n dX8_work_159 rfl rfl jv_rr ?_
          refine jr_iconst dX8_work_160 ic_0 ?_
          refine jr_aload_n dX8_work_161 rfl rfl jv_rr ?_
          refine tr_getI fl_X8_262_23 dX8_work_162 ?_
          obtain ⟨S36, h34, hf⟩ := so_b hf
          refine jr_callM (st := []) lk_X8_309_23 (wcX8_goes 12 (0 : Int32) (S33 0 30) hT S33 h34) tm_k23 rfl rfl rfl (so_le rfl) (so_le rfl) dX8_work_165 ?_
          refine jr_aload_n dX8_work_168 rfl rfl jv_rr ?_
          refine tr_getI fl_X8_316_23 dX8_work_169 ?_
          obtain ⟨rfl, rfl⟩ := so_e2 hf
          exact jr_iret rfl rfl dX8_work_172
        · have hf := so_f c24 hf
          refine jr_aload_n dX8_work_108 rfl rfl jv_rr ?_
          obtain ⟨r38, S39, h37, hf⟩ := tm_b2E hf
          refine jr_callM (st := []) lk_X8_199_23 (wX8_ends hT S23 h37) tm_k23 rfl rfl rfl (so_le rfl) (so_le rfl) dX8_work_109 ?_
          obtain ⟨rfl, rfl⟩ := so_e2 hf
          exact jr_iret rfl rfl dX8_work_112
      · have hf := so_t c8 hf
        refine jr_aload_n dX8_work_49 rfl rfl jv_rr ?_
        refine jr_iconst dX8_work_50 ic_0 ?_
        refine tr_putI fp_X8_109_23 dX8_work_51 ?_
        refine tm_let_e hf (fun S40 hf => ?_)
        refine jr_aload_n dX8_work_54 rfl rfl jv_rr ?_
        refine jr_iconst dX8_work_55 ic_m1 ?_
        refine tr_putI fp_X8_9_23 dX8_work_56 ?_
        refine tm_let_e hf (fun S41 hf => ?_)
        refine jr_bipush dX8_work_59 bp_m20 ?_
        obtain ⟨rfl, rfl⟩ := so_e2 hf
        exact jr_iret rfl rfl dX8_work_61
    · have hf := so_f c7 hf
      refine jr_iconst dX8_work_38 ic_0 ?_
      obtain ⟨rfl, rfl⟩ := so_e2 hf
      exact jr_iret rfl rfl dX8_work_39
  · refine so_jE hf (fun J => ∀ (u0 : Unit), J u0 = some (res, sg') → jg_ (tm_j S0 sg, tm_j S0 sg', .inl (some (.int res))) kX8_work 25 [(0, .ref (tm_a 0)), (1, .int a1)] [.ref (tm_a 0)] (tm_j S0 S1)) (fun _u hf => ?_) (fun J42 hJ42 hf => ?_)
    · refine jr_iconst dX8_work_25 ic_1 ?_
      refine jr_goto (tgt := 30) dX8_work_26 rfl ?_
      exact hJ3 (1 : Int32) hf
    · refine jr_if_eq (tgt := 25) dX8_work_15 rfl (fun c43 => ?_) (fun c43 => ?_)
      · have hf := so_t c43 hf
        exact hJ42 () hf
      · have hf := so_f c43 hf
        refine jr_iload_n dX8_work_18 rfl rfl ?_
        refine jr_sipush dX8_work_19 sp_150 ?_
        refine jr_icmp_le (tgt := 29) dX8_work_22 rfl (fun c44 => ?_) (fun c44 => ?_)
        · have hf := so_t c44 hf
          refine jr_iconst dX8_work_29 ic_0 ?_
          exact hJ3 (0 : Int32) hf
        · have hf := so_f c44 hf
          exact hJ42 () hf
