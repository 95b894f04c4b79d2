/-! printed: functions and walks -/
set_option maxRecDepth 100000
set_option linter.unusedVariables false
/- X8_way -/
abbrev kX8_way : jx_K := (cX8_way, 6, RX8, 2, (Option.some Jvm.ClassFile.FieldType.int), "way", [])
def LX8_way_39 (f1 : Int32) (f2 : Int32) (k71 : tm_S → Option (Int32 × tm_S)) : Nat → Int32 → tm_S → Option (Int32 × tm_S)
  | 0, _, _ => none
  | n + 1, v10, S11 =>
    so_gd (so_in (0 : Int32) 4) fun _ =>
    if (S11 4 (0 : Int32).toNatClampNeg) ≤ v10 then
    (k71 S11)
    else
    (so_j (κ := Int32 → Option (Int32 × tm_S)) (ρ := Option (Int32 × tm_S)) (fun (v14 : Int32) =>
    so_gd (so_in v10 8) fun _ =>
    tm_let (tm_up S11 556 v10.toNatClampNeg v14) fun S17 =>
    LX8_way_39 f1 f2 k71 n (v10 + (1 : Int32)) S17)
    (fun J15 =>
    if v10 = f1 then
    (J15 (0 : Int32))
    else
    (J15 (-1 : Int32))))
set_option maxHeartbeats 4000000 in
set_option maxRecDepth 100000 in
theorem wX8_way_39 {res : Int32} {sg' : tm_S} {S0 : so_St} {sg0 : tm_S}   (f1 : Int32) (f2 : Int32) (hT : tm_Sh S0)   (k71 : tm_S → Option (Int32 × tm_S)) (h71 : ∀ (S19 : tm_S), k71 S19 = some (res, sg') → jg_ (tm_j S0 sg0, tm_j S0 sg', .inl (some (.int res))) kX8_way 71 [(0, .ref (tm_a 0)), (2, .int f2)] [] (tm_j S0 S19)) : ∀ (n : Nat) (v10 : Int32) (S11 : tm_S), LX8_way_39 f1 f2 k71 n v10 S11 = some (res, sg') → jg_ (tm_j S0 sg0, tm_j S0 sg', .inl (some (.int res))) kX8_way 39 [(0, .ref (tm_a 0)), (1, .int f1), (2, .int f2), (3, .int v10)] [] (tm_j S0 S11) := by
  intro n
  induction n with
  | zero =>
    intro v10 S11 hf
    exact so_no hf
  | succ n ih =>
    intro v10 S11 hf
    rw [LX8_way_39] at hf
    refine jr_iload_n dX8_way_39 rfl rfl ?_
    refine jr_aload_n dX8_way_40 rfl rfl jv_rr ?_
    refine tr_getR (c := 4) hT (List.mem_of_getElem? (i := 3) rfl) fl_X8_23_23 dX8_way_41 ?_
    refine jr_iconst dX8_way_44 ic_0 ?_
    obtain ⟨g12, hf⟩ := so_gdE hf
    refine tr_iaload hT (show tm_k 4 = 50 from rfl) rfl (so_inE g12) dX8_way_45 ?_
    refine jr_icmp_ge (tgt := 71) dX8_way_46 rfl (fun c13 => ?_) (fun c13 => ?_)
    · have hf := so_t c13 hf
      refine jr_sub [0, 2] rfl ?_
      exact h71 S11 hf
    · have hf := so_f c13 hf
      refine jr_aload_n dX8_way_49 rfl rfl jv_rr ?_
      refine tr_getR (c := 556) hT (List.mem_of_getElem? (i := 27) rfl) fl_X8_97_23 dX8_way_50 ?_
      refine jr_iload_n dX8_way_53 rfl rfl ?_
      refine jr_iload_n dX8_way_54 rfl rfl ?_
      refine jr_iload_n dX8_way_55 rfl rfl ?_
      refine so_jE hf (fun J => ∀ (v14 : Int32), J v14 = some (res, sg') → jg_ (tm_j S0 sg0, tm_j S0 sg', .inl (some (.int res))) kX8_way 64 [(0, .ref (tm_a 0)), (1, .int f1), (2, .int f2), (3, .int v10)] [.int v14, .int v10, .ref (tm_a 556)] (tm_j S0 S11)) (fun v14 hf => ?_) (fun J15 hJ15 hf => ?_)
      · obtain ⟨g16, hf⟩ := so_gdE hf
        refine tr_iastore hT (show tm_k 556 = 50 from rfl) rfl (so_inE g16) dX8_way_64 ?_
        refine tm_let_e hf (fun S17 hf => ?_)
        refine jr_iinc (v := v10 + (1 : Int32)) (lv' := [(0, .ref (tm_a 0)), (1, .int f1), (2, .int f2), (3, .int (v10 + (1 : Int32)))]) dX8_way_65 rfl rfl (so_le rfl) rfl ?_
        refine jr_goto (tgt := 39) dX8_way_68 rfl ?_
        exact ih (v10 + (1 : Int32)) S17 hf
      · refine jr_icmp_ne (tgt := 63) dX8_way_56 rfl (fun c18 => ?_) (fun c18 => ?_)
        · have hf := so_f c18 hf
          refine jr_iconst dX8_way_63 ic_m1 ?_
          exact hJ15 (-1 : Int32) hf
        · have hf := so_t c18 hf
          refine jr_iconst dX8_way_59 ic_0 ?_
          refine jr_goto (tgt := 64) dX8_way_60 rfl ?_
          exact hJ15 (0 : Int32) hf
def LX8_way_100 (f2 : Int32) (f3 : Int32) (f4 : Int32) (k170 : tm_S → Option (Int32 × tm_S)) : Nat → Int32 → tm_S → Option (Int32 × tm_S)
  | 0, _, _ => none
  | n + 1, v29, S30 =>
    so_gd (so_in (0 : Int32) 4) fun _ =>
    if (S30 4 (0 : Int32).toNatClampNeg) ≤ v29 then
    (k170 S30)
    else
    (so_gd (so_in f4 8) fun _ =>
    so_j (κ := Int32 → Option (Int32 × tm_S)) (ρ := Option (Int32 × tm_S)) (fun (v34 : Int32) =>
    so_gd (so_in f4 8) fun _ =>
    tm_let (tm_up S30 556 f4.toNatClampNeg v34) fun S37 =>
    LX8_way_100 f2 f3 f4 k170 n (v29 + (1 : Int32)) S37)
    (fun J35 =>
    so_j (κ := Unit → Option (Int32 × tm_S)) (ρ := Option (Int32 × tm_S)) (fun (_u : Unit) =>
    so_gd (so_in f4 8) fun _ =>
    J35 (S30 556 f4.toNatClampNeg))
    (fun J38 =>
    if (S30 556 f4.toNatClampNeg) = (-1 : Int32) then
    (so_gd (so_in v29 8) fun _ =>
    if (S30 556 v29.toNatClampNeg) = f3 then
    ((fX8_isWall f4 v29 S30).bind fun r44 =>
    if r44 = (0 : Int32) then
    (J38 ())
    else
    (J35 (f3 + (1 : Int32))))
    else
    (J38 ()))
    else
    (J38 ()))))
set_option maxHeartbeats 4000000 in
set_option maxRecDepth 100000 in
theorem wX8_way_100 {res : Int32} {sg' : tm_S} {S0 : so_St} {sg0 : tm_S}   (f2 : Int32) (f3 : Int32) (f4 : Int32) (hT : tm_Sh S0)   (k170 : tm_S → Option (Int32 × tm_S)) (h170 : ∀ (S46 : tm_S), k170 S46 = some (res, sg') → jg_ (tm_j S0 sg0, tm_j S0 sg', .inl (some (.int res))) kX8_way 170 [(0, .ref (tm_a 0)), (2, .int f2), (3, .int f3), (4, .int f4)] [] (tm_j S0 S46)) : ∀ (n : Nat) (v29 : Int32) (S30 : tm_S), LX8_way_100 f2 f3 f4 k170 n v29 S30 = some (res, sg') → jg_ (tm_j S0 sg0, tm_j S0 sg', .inl (some (.int res))) kX8_way 100 [(0, .ref (tm_a 0)), (2, .int f2), (3, .int f3), (4, .int f4), (5, .int v29)] [] (tm_j S0 S30) := by
  intro n
  induction n with
  | zero =>
    intro v29 S30 hf
    exact so_no hf
  | succ n ih =>
    intro v29 S30 hf
    rw [LX8_way_100] at hf
    refine jr_iload dX8_way_100 rfl ?_
    refine jr_aload_n dX8_way_102 rfl rfl jv_rr ?_
    refine tr_getR (c := 4) hT (List.mem_of_getElem? (i := 3) rfl) fl_X8_23_23 dX8_way_103 ?_
    refine jr_iconst dX8_way_106 ic_0 ?_
    obtain ⟨g31, hf⟩ := so_gdE hf
    refine tr_iaload hT (show tm_k 4 = 50 from rfl) rfl (so_inE g31) dX8_way_107 ?_
    refine jr_icmp_ge (tgt := 170) dX8_way_108 rfl (fun c32 => ?_) (fun c32 => ?_)
    · have hf := so_t c32 hf
      refine jr_sub [0, 1, 2, 3] rfl ?_
      exact h170 S30 hf
    · have hf := so_f c32 hf
      refine jr_aload_n dX8_way_111 rfl rfl jv_rr ?_
      refine tr_getR (c := 556) hT (List.mem_of_getElem? (i := 27) rfl) fl_X8_97_23 dX8_way_112 ?_
      refine jr_iload dX8_way_115 rfl ?_
      refine jr_aload_n dX8_way_117 rfl rfl jv_rr ?_
      refine tr_getR (c := 556) hT (List.mem_of_getElem? (i := 27) rfl) fl_X8_97_23 dX8_way_118 ?_
      refine jr_iload dX8_way_121 rfl ?_
      obtain ⟨g33, hf⟩ := so_gdE hf
      refine tr_iaload hT (show tm_k 556 = 50 from rfl) rfl (so_inE g33) dX8_way_123 ?_
      refine jr_iconst dX8_way_124 ic_m1 ?_
      refine so_jE hf (fun J => ∀ (v34 : Int32), J v34 = some (res, sg') → jg_ (tm_j S0 sg0, tm_j S0 sg', .inl (some (.int res))) kX8_way 163 [(0, .ref (tm_a 0)), (2, .int f2), (3, .int f3), (4, .int f4), (5, .int v29)] [.int v34, .int f4, .ref (tm_a 556)] (tm_j S0 S30)) (fun v34 hf => ?_) (fun J35 hJ35 hf => ?_)
      · obtain ⟨g36, hf⟩ := so_gdE hf
        refine tr_iastore hT (show tm_k 556 = 50 from rfl) rfl (so_inE g36) dX8_way_163 ?_
        refine tm_let_e hf (fun S37 hf => ?_)
        refine jr_iinc (v := v29 + (1 : Int32)) (lv' := [(0, .ref (tm_a 0)), (2, .int f2), (3, .int f3), (4, .int f4), (5, .int (v29 + (1 : Int32)))]) dX8_way_164 rfl rfl (so_le rfl) rfl ?_
        refine jr_goto (tgt := 100) dX8_way_167 rfl ?_
        exact ih (v29 + (1 : Int32)) S37 hf
      · refine so_jE hf (fun J => ∀ (u0 : Unit), J u0 = some (res, sg') → jg_ (tm_j S0 sg0, tm_j S0 sg', .inl (some (.int res))) kX8_way 156 [(0, .ref (tm_a 0)), (2, .int f2), (3, .int f3), (4, .int f4), (5, .int v29)] [.int f4, .ref (tm_a 556)] (tm_j S0 S30)) (fun _u hf => ?_) (fun J38 hJ38 hf => ?_)
        · refine jr_aload_n dX8_way_156 rfl rfl jv_rr ?_
          refine tr_getR (c := 556) hT (List.mem_of_getElem? (i := 27) rfl) fl_X8_97_23 dX8_way_157 ?_
          refine jr_iload dX8_way_160 rfl ?_
          obtain ⟨g39, hf⟩ := so_gdE hf
          refine tr_iaload hT (show tm_k 556 = 50 from rfl) rfl (so_inE g39) dX8_way_162 ?_
          exact hJ35 (S30 556 f4.toNatClampNeg) hf
        · refine jr_icmp_ne (tgt := 156) dX8_way_125 rfl (fun c40 => ?_) (fun c40 => ?_)
          · have hf := so_f c40 hf
            exact hJ38 () hf
          · have hf := so_t c40 hf
            refine jr_aload_n dX8_way_128 rfl rfl jv_rr ?_
            refine tr_getR (c := 556) hT (List.mem_of_getElem? (i := 27) rfl) fl_X8_97_23 dX8_way_129 ?_
            refine jr_iload dX8_way_132 rfl ?_
            obtain ⟨g41, hf⟩ := so_gdE hf
            refine tr_iaload hT (show tm_k 556 = 50 from rfl) rfl (so_inE g41) dX8_way_134 ?_
            refine jr_iload_n dX8_way_135 rfl rfl ?_
            refine jr_icmp_ne (tgt := 156) dX8_way_136 rfl (fun c42 => ?_) (fun c42 => ?_)
            · have hf := so_f c42 hf
              exact hJ38 () hf
            · have hf := so_t c42 hf
              refine jr_aload_n dX8_way_139 rfl rfl jv_rr ?_
              refine jr_iload dX8_way_140 rfl ?_
              refine jr_iload dX8_way_142 rfl ?_
              obtain ⟨r44, h43, hf⟩ := so_b hf
              refine jr_callM (st := [.int f4, .ref (tm_a 556)]) lk_X8_268_23 (wX8_isWall f4 v29 hT S30 h43) tm_k23 rfl rfl rfl (so_le rfl) (so_le rfl) dX8_way_144 ?_
              refine jr_if_eq (tgt := 156) dX8_way_147 rfl (fun c45 => ?_) (fun c45 => ?_)
              · have hf := so_t c45 hf
                exact hJ38 () hf
              · have hf := so_f c45 hf
                refine jr_iload_n dX8_way_150 rfl rfl ?_
                refine jr_iconst dX8_way_151 ic_1 ?_
                refine jr_iadd dX8_way_152 ?_
                refine jr_goto (tgt := 163) dX8_way_153 rfl ?_
                exact hJ35 (f3 + (1 : Int32)) hf
def LX8_way_86 (f2 : Int32) (f3 : Int32) (k176 : tm_S → Option (Int32 × tm_S)) : Nat → Int32 → tm_S → Option (Int32 × tm_S)
  | 0, _, _ => none
  | n + 1, v25, S26 =>
    so_gd (so_in (0 : Int32) 4) fun _ =>
    if (S26 4 (0 : Int32).toNatClampNeg) ≤ v25 then
    (k176 S26)
    else
    (LX8_way_100 f2 f3 v25 (fun (S47 : tm_S) =>
    LX8_way_86 f2 f3 k176 n (v25 + (1 : Int32)) S47) so_N (0 : Int32) S26)
set_option maxHeartbeats 4000000 in
set_option maxRecDepth 100000 in
theorem wX8_way_86 {res : Int32} {sg' : tm_S} {S0 : so_St} {sg0 : tm_S}   (f2 : Int32) (f3 : Int32) (hT : tm_Sh S0)   (k176 : tm_S → Option (Int32 × tm_S)) (h176 : ∀ (S48 : tm_S), k176 S48 = some (res, sg') → jg_ (tm_j S0 sg0, tm_j S0 sg', .inl (some (.int res))) kX8_way 176 [(0, .ref (tm_a 0)), (2, .int f2), (3, .int f3)] [] (tm_j S0 S48)) : ∀ (n : Nat) (v25 : Int32) (S26 : tm_S), LX8_way_86 f2 f3 k176 n v25 S26 = some (res, sg') → jg_ (tm_j S0 sg0, tm_j S0 sg', .inl (some (.int res))) kX8_way 86 [(0, .ref (tm_a 0)), (2, .int f2), (3, .int f3), (4, .int v25)] [] (tm_j S0 S26) := by
  intro n
  induction n with
  | zero =>
    intro v25 S26 hf
    exact so_no hf
  | succ n ih =>
    intro v25 S26 hf
    rw [LX8_way_86] at hf
    refine jr_iload dX8_way_86 rfl ?_
    refine jr_aload_n dX8_way_88 rfl rfl jv_rr ?_
    refine tr_getR (c := 4) hT (List.mem_of_getElem? (i := 3) rfl) fl_X8_23_23 dX8_way_89 ?_
    refine jr_iconst dX8_way_92 ic_0 ?_
    obtain ⟨g27, hf⟩ := so_gdE hf
    refine tr_iaload hT (show tm_k 4 = 50 from rfl) rfl (so_inE g27) dX8_way_93 ?_
    refine jr_icmp_ge (tgt := 176) dX8_way_94 rfl (fun c28 => ?_) (fun c28 => ?_)
    · have hf := so_t c28 hf
      refine jr_sub [0, 1, 2] rfl ?_
      exact h176 S26 hf
    · have hf := so_f c28 hf
      refine jr_iconst dX8_way_97 ic_0 ?_
      refine jr_istore (lv' := [(0, .ref (tm_a 0)), (2, .int f2), (3, .int f3), (4, .int v25), (5, .int (0 : Int32))]) dX8_way_98 (so_le rfl) rfl ?_
      refine wX8_way_100 f2 f3 v25 hT _ (fun S47 hf => ?_) so_N (0 : Int32) S26 hf
      refine jr_iinc (v := v25 + (1 : Int32)) (lv' := [(0, .ref (tm_a 0)), (2, .int f2), (3, .int f3), (4, .int (v25 + (1 : Int32)))]) dX8_way_170 rfl rfl (so_le rfl) rfl ?_
      refine jr_goto (tgt := 86) dX8_way_173 rfl ?_
      exact ih (v25 + (1 : Int32)) S47 hf
def LX8_way_73 (f2 : Int32) (k182 : tm_S → Option (Int32 × tm_S)) : Nat → Int32 → tm_S → Option (Int32 × tm_S)
  | 0, _, _ => none
  | n + 1, v21, S22 =>
    so_gd (so_in (0 : Int32) 4) fun _ =>
    if (S22 4 (0 : Int32).toNatClampNeg) ≤ v21 then
    (k182 S22)
    else
    (LX8_way_86 f2 v21 (fun (S49 : tm_S) =>
    LX8_way_73 f2 k182 n (v21 + (1 : Int32)) S49) so_N (0 : Int32) S22)
set_option maxHeartbeats 4000000 in
set_option maxRecDepth 100000 in
theorem wX8_way_73 {res : Int32} {sg' : tm_S} {S0 : so_St} {sg0 : tm_S}   (f2 : Int32) (hT : tm_Sh S0)   (k182 : tm_S → Option (Int32 × tm_S)) (h182 : ∀ (S50 : tm_S), k182 S50 = some (res, sg') → jg_ (tm_j S0 sg0, tm_j S0 sg', .inl (some (.int res))) kX8_way 182 [(0, .ref (tm_a 0)), (2, .int f2)] [] (tm_j S0 S50)) : ∀ (n : Nat) (v21 : Int32) (S22 : tm_S), LX8_way_73 f2 k182 n v21 S22 = some (res, sg') → jg_ (tm_j S0 sg0, tm_j S0 sg', .inl (some (.int res))) kX8_way 73 [(0, .ref (tm_a 0)), (2, .int f2), (3, .int v21)] [] (tm_j S0 S22) := by
  intro n
  induction n with
  | zero =>
    intro v21 S22 hf
    exact so_no hf
  | succ n ih =>
    intro v21 S22 hf
    rw [LX8_way_73] at hf
    refine jr_iload_n dX8_way_73 rfl rfl ?_
    refine jr_aload_n dX8_way_74 rfl rfl jv_rr ?_
    refine tr_getR (c := 4) hT (List.mem_of_getElem? (i := 3) rfl) fl_X8_23_23 dX8_way_75 ?_
    refine jr_iconst dX8_way_78 ic_0 ?_
    obtain ⟨g23, hf⟩ := so_gdE hf
    refine tr_iaload hT (show tm_k 4 = 50 from rfl) rfl (so_inE g23) dX8_way_79 ?_
    refine jr_icmp_ge (tgt := 182) dX8_way_80 rfl (fun c24 => ?_) (fun c24 => ?_)
    · have hf := so_t c24 hf
      refine jr_sub [0, 1] rfl ?_
      exact h182 S22 hf
    · have hf := so_f c24 hf
      refine jr_iconst dX8_way_83 ic_0 ?_
      refine jr_istore (lv' := [(0, .ref (tm_a 0)), (2, .int f2), (3, .int v21), (4, .int (0 : Int32))]) dX8_way_84 (so_le rfl) rfl ?_
      refine wX8_way_86 f2 v21 hT _ (fun S49 hf => ?_) so_N (0 : Int32) S22 hf
      refine jr_iinc (v := v21 + (1 : Int32)) (lv' := [(0, .ref (tm_a 0)), (2, .int f2), (3, .int (v21 + (1 : Int32)))]) dX8_way_176 rfl rfl (so_le rfl) rfl ?_
      refine jr_goto (tgt := 73) dX8_way_179 rfl ?_
      exact ih (v21 + (1 : Int32)) S49 hf
def fX8_way (a1 : Int32) (a2 : Int32) (sg : tm_S) : Option (Int32 × tm_S) :=
  tm_let (tm_up sg 0 0 (0 : Int32)) fun S1 =>
  (fX8_isHouse a1 S1).bind fun r3 =>
  so_j (κ := Int32 → Option (Int32 × tm_S)) (ρ := Option (Int32 × tm_S)) (fun (v4 : Int32) =>
  tm_b2 (fX8_bad v4 (1 : Int32) (0 : Int32) S1) fun r7 S8 =>
  if r7 = (0 : Int32) then
  (LX8_way_39 a1 a2 (fun (S20 : tm_S) =>
  LX8_way_73 a2 (fun (S51 : tm_S) =>
  so_gd (so_in a2 8) fun _ =>
  some ((S51 556 a2.toNatClampNeg), S51)) so_N (0 : Int32) S20) so_N (0 : Int32) S8)
  else
  (some ((0 : Int32), S8)))
  (fun J5 =>
  so_j (κ := Unit → Option (Int32 × tm_S)) (ρ := Option (Int32 × tm_S)) (fun (_u : Unit) =>
  J5 (1 : Int32))
  (fun J53 =>
  if r3 = (0 : Int32) then
  (J53 ())
  else
  ((fX8_isHouse a2 S1).bind fun r56 =>
  if r56 = (0 : Int32) then
  (J53 ())
  else
  (J5 (0 : Int32)))))
set_option maxHeartbeats 4000000 in
set_option maxRecDepth 100000 in
theorem wX8_way {res : Int32} {sg' : tm_S} {S0 : so_St}  (a1 : Int32) (a2 : Int32) (hT : tm_Sh S0) (sg : tm_S)  (hf : fX8_way a1 a2 sg = some (res, sg')) : jx_Sp 2 yX8_way (ws_ yX8_way cX8_way 6 (Option.some Jvm.ClassFile.FieldType.int)) [.ref (tm_a 0), .int a1, .int a2] (tm_j S0 sg) (.inl (some (.int res))) (tm_j S0 sg') := by
  refine jx_of (plainFor_of_name (by decide)) (so_le rfl) ?_
  show jg_ ((tm_j S0 sg), (tm_j S0 sg'), .inl (some (.int res))) kX8_way 0 [(0, .ref (tm_a 0)), (1, .int a1), (2, .int a2)] [] (tm_j S0 sg)
  unfold fX8_way at hf
  refine jr_aload_n dX8_way_0 rfl rfl jv_rr ?_
  refine jr_iconst dX8_way_1 ic_0 ?_
  refine tr_putI fp_X8_106_23 dX8_way_2 ?_
  refine tm_let_e hf (fun S1 hf => ?_)
  refine jr_aload_n dX8_way_5 rfl rfl jv_rr ?_
  refine jr_aload_n dX8_way_6 rfl rfl jv_rr ?_
  refine jr_iload_n dX8_way_7 rfl rfl ?_
  obtain ⟨r3, h2, hf⟩ := so_b hf
  refine jr_callM (st := [.ref (tm_a 0)]) lk_X8_339_23 (wX8_isHouse a1 hT S1 h2) tm_k23 rfl rfl rfl (so_le rfl) (so_le rfl) dX8_way_8 ?_
  refine so_jE hf (fun J => ∀ (v4 : Int32), J v4 = some (res, sg') → jg_ (tm_j S0 sg, tm_j S0 sg', .inl (some (.int res))) kX8_way 27 [(0, .ref (tm_a 0)), (1, .int a1), (2, .int a2)] [.int v4, .ref (tm_a 0)] (tm_j S0 S1)) (fun v4 hf => ?_) (fun J5 hJ5 hf => ?_)
  · refine jr_iconst dX8_way_27 ic_1 ?_
    refine jr_iconst dX8_way_28 ic_0 ?_
    obtain ⟨r7, S8, h6, hf⟩ := tm_b2E hf
    refine jr_callM (st := []) lk_X8_189_23 (wX8_bad v4 (1 : Int32) (0 : Int32) hT S1 h6) tm_k23 rfl rfl rfl (so_le rfl) (so_le rfl) dX8_way_29 ?_
    refine jr_if_eq (tgt := 37) dX8_way_32 rfl (fun c9 => ?_) (fun c9 => ?_)
    · have hf := so_t c9 hf
      refine jr_iconst dX8_way_37 ic_0 ?_
      refine jr_istore_n (lv' := [(0, .ref (tm_a 0)), (1, .int a1), (2, .int a2), (3, .int (0 : Int32))]) dX8_way_38 rfl (so_le rfl) rfl ?_
      refine wX8_way_39 a1 a2 hT _ (fun S20 hf => ?_) so_N (0 : Int32) S8 hf
      refine jr_iconst dX8_way_71 ic_0 ?_
      refine jr_istore_n (lv' := [(0, .ref (tm_a 0)), (2, .int a2), (3, .int (0 : Int32))]) dX8_way_72 rfl (so_le rfl) rfl ?_
      refine wX8_way_73 a2 hT _ (fun S51 hf => ?_) so_N (0 : Int32) S20 hf
      refine jr_aload_n dX8_way_182 rfl rfl jv_rr ?_
      refine tr_getR (c := 556) hT (List.mem_of_getElem? (i := 27) rfl) fl_X8_97_23 dX8_way_183 ?_
      refine jr_iload_n dX8_way_186 rfl rfl ?_
      obtain ⟨g52, hf⟩ := so_gdE hf
      refine tr_iaload hT (show tm_k 556 = 50 from rfl) rfl (so_inE g52) dX8_way_187 ?_
      obtain ⟨rfl, rfl⟩ := so_e2 hf
      exact jr_iret rfl rfl dX8_way_188
    · have hf := so_f c9 hf
      refine jr_iconst dX8_way_35 ic_0 ?_
      obtain ⟨rfl, rfl⟩ := so_e2 hf
      exact jr_iret rfl rfl dX8_way_36
  · refine so_jE hf (fun J => ∀ (u0 : Unit), J u0 = some (res, sg') → jg_ (tm_j S0 sg, tm_j S0 sg', .inl (some (.int res))) kX8_way 22 [(0, .ref (tm_a 0)), (1, .int a1), (2, .int a2)] [.ref (tm_a 0)] (tm_j S0 S1)) (fun _u hf => ?_) (fun J53 hJ53 hf => ?_)
    · refine jr_iconst dX8_way_22 ic_1 ?_
      refine jr_goto (tgt := 27) dX8_way_23 rfl ?_
      exact hJ5 (1 : Int32) hf
    · refine jr_if_eq (tgt := 22) dX8_way_11 rfl (fun c54 => ?_) (fun c54 => ?_)
      · have hf := so_t c54 hf
        exact hJ53 () hf
      · have hf := so_f c54 hf
        refine jr_aload_n dX8_way_14 rfl rfl jv_rr ?_
        refine jr_iload_n dX8_way_15 rfl rfl ?_
        obtain ⟨r56, h55, hf⟩ := so_b hf
        refine jr_callM (st := [.ref (tm_a 0)]) lk_X8_339_23 (wX8_isHouse a2 hT S1 h55) tm_k23 rfl rfl rfl (so_le rfl) (so_le rfl) dX8_way_16 ?_
        refine jr_if_ne (tgt := 26) dX8_way_19 rfl (fun c57 => ?_) (fun c57 => ?_)
        · have hf := so_f c57 hf
          refine jr_iconst dX8_way_26 ic_0 ?_
          exact hJ5 (0 : Int32) hf
        · have hf := so_t c57 hf
          exact hJ53 () hf

/- X8_ones -/
abbrev kX8_ones : jx_K := (cX8_ones, 3, RX8, 0, (Option.some Jvm.ClassFile.FieldType.int), "ones", [])
def LX8_ones_4 (f0 : Int32) (sg : tm_S) : Nat → Int32 → Int32 → Option Int32
  | 0, _, _ => none
  | n + 1, v1, v2 =>
    if (8 : Int32) ≤ v2 then
    (some v1)
    else
    (LX8_ones_4 f0 sg n (v1 + ((f0 >>> (v2 &&& 31)) &&& (1 : Int32))) (v2 + (1 : Int32)))
set_option maxHeartbeats 4000000 in
set_option maxRecDepth 100000 in
theorem wX8_ones_4 {res : Int32} {S0 : so_St}   (f0 : Int32) (hT : tm_Sh S0) (sg : tm_S)  : ∀ (n : Nat) (v1 : Int32) (v2 : Int32), LX8_ones_4 f0 sg n v1 v2 = some res → jg_ (tm_j S0 sg, tm_j S0 sg, .inl (some (.int res))) kX8_ones 4 [(0, .int f0), (1, .int v1), (2, .int v2)] [] (tm_j S0 sg) := by
  intro n
  induction n with
  | zero =>
    intro v1 v2 hf
    exact so_no hf
  | succ n ih =>
    intro v1 v2 hf
    rw [LX8_ones_4] at hf
    refine jr_iload_n dX8_ones_4 rfl rfl ?_
    refine jr_bipush dX8_ones_5 bp_8 ?_
    refine jr_icmp_ge (tgt := 24) dX8_ones_7 rfl (fun c3 => ?_) (fun c3 => ?_)
    · have hf := so_t c3 hf
      refine jr_iload_n dX8_ones_24 rfl rfl ?_
      obtain rfl := so_e1 hf
      exact jr_iret rfl rfl dX8_ones_25
    · have hf := so_f c3 hf
      refine jr_iload_n dX8_ones_10 rfl rfl ?_
      refine jr_iload_n dX8_ones_11 rfl rfl ?_
      refine jr_iload_n dX8_ones_12 rfl rfl ?_
      refine jr_ishr dX8_ones_13 ?_
      refine jr_iconst dX8_ones_14 ic_1 ?_
      refine jr_iand dX8_ones_15 ?_
      refine jr_iadd dX8_ones_16 ?_
      refine jr_istore_n (lv' := [(0, .int f0), (1, .int (v1 + ((f0 >>> (v2 &&& 31)) &&& (1 : Int32)))), (2, .int v2)]) dX8_ones_17 rfl (so_le rfl) rfl ?_
      refine jr_iinc (v := v2 + (1 : Int32)) (lv' := [(0, .int f0), (1, .int (v1 + ((f0 >>> (v2 &&& 31)) &&& (1 : Int32)))), (2, .int (v2 + (1 : Int32)))]) dX8_ones_18 rfl rfl (so_le rfl) rfl ?_
      refine jr_goto (tgt := 4) dX8_ones_21 rfl ?_
      exact ih (v1 + ((f0 >>> (v2 &&& 31)) &&& (1 : Int32))) (v2 + (1 : Int32)) hf
def fX8_ones (a0 : Int32) (sg : tm_S) : Option Int32 :=
  LX8_ones_4 a0 sg so_N (0 : Int32) (0 : Int32)
set_option maxHeartbeats 4000000 in
set_option maxRecDepth 100000 in
theorem wX8_ones {res : Int32} {S0 : so_St}  (a0 : Int32) (hT : tm_Sh S0) (sg : tm_S)  (hf : fX8_ones a0 sg = some res) : jx_Sp 0 yX8_ones (ws_ yX8_ones cX8_ones 3 (Option.some Jvm.ClassFile.FieldType.int)) [.int a0] (tm_j S0 sg) (.inl (some (.int res))) (tm_j S0 sg) := by
  refine jx_of (plainFor_of_name (by decide)) (so_le rfl) ?_
  show jg_ ((tm_j S0 sg), (tm_j S0 sg), .inl (some (.int res))) kX8_ones 0 [(0, .int a0)] [] (tm_j S0 sg)
  unfold fX8_ones at hf
  refine jr_iconst dX8_ones_0 ic_0 ?_
  refine jr_istore_n (lv' := [(0, .int a0), (1, .int (0 : Int32))]) dX8_ones_1 rfl (so_le rfl) rfl ?_
  refine jr_iconst dX8_ones_2 ic_0 ?_
  refine jr_istore_n (lv' := [(0, .int a0), (1, .int (0 : Int32)), (2, .int (0 : Int32))]) dX8_ones_3 rfl (so_le rfl) rfl ?_
  refine wX8_ones_4 a0 hT sg so_N (0 : Int32) (0 : Int32) hf

/- X8_has -/
abbrev kX8_has : jx_K := (cX8_has, 2, RX8, 0, (Option.some Jvm.ClassFile.FieldType.boolean), "has", [])
def fX8_has (a0 : Int32) (a1 : Int32) : Int32 :=
  if ((a0 >>> (a1 &&& 31)) &&& (1 : Int32)) = (1 : Int32) then
  ((1 : Int32))
  else
  ((0 : Int32))
set_option maxHeartbeats 4000000 in
set_option maxRecDepth 100000 in
theorem wX8_has {res : Int32} {S0 : so_St}  (a0 : Int32) (a1 : Int32) (hT : tm_Sh S0) (sg : tm_S)  (hf : fX8_has a0 a1 = res) : jx_Sp 0 yX8_has (ws_ yX8_has cX8_has 2 (Option.some Jvm.ClassFile.FieldType.boolean)) [.int a0, .int a1] (tm_j S0 sg) (.inl (some (.int res))) (tm_j S0 sg) := by
  refine jx_of (plainFor_of_name (by decide)) (so_le rfl) ?_
  show jg_ ((tm_j S0 sg), (tm_j S0 sg), .inl (some (.int res))) kX8_has 0 [(0, .int a0), (1, .int a1)] [] (tm_j S0 sg)
  unfold fX8_has at hf
  refine jr_iload_n dX8_has_0 rfl rfl ?_
  refine jr_iload_n dX8_has_1 rfl rfl ?_
  refine jr_ishr dX8_has_2 ?_
  refine jr_iconst dX8_has_3 ic_1 ?_
  refine jr_iand dX8_has_4 ?_
  refine jr_iconst dX8_has_5 ic_1 ?_
  refine jr_icmp_ne (tgt := 13) dX8_has_6 rfl (fun c1 => ?_) (fun c1 => ?_)
  · have hf := so_f c1 hf
    refine jr_iconst dX8_has_13 ic_0 ?_
    obtain rfl := hf
    exact jr_iret rfl rfl dX8_has_14
  · have hf := so_t c1 hf
    refine jr_iconst dX8_has_9 ic_1 ?_
    refine jr_goto (tgt := 14) dX8_has_10 rfl ?_
    obtain rfl := hf
    exact jr_iret rfl rfl dX8_has_14

/- X8_alone -/
abbrev kX8_alone : jx_K := (cX8_alone, 5, RX8, 1, (Option.some Jvm.ClassFile.FieldType.int), "alone", [])
def LX8_alone_41 (f1 : Int32) (f2 : Int32) (k100 : Int32 → tm_S → Option (Int32 × tm_S)) : Nat → Int32 → Int32 → tm_S → Option (Int32 × tm_S)
  | 0, _, _, _ => none
  | n + 1, v13, v14, S15 =>
    so_gd (so_in (1 : Int32) 4) fun _ =>
    if (S15 4 (1 : Int32).toNatClampNeg) ≤ v14 then
    (k100 v13 S15)
    else
    (if v13 = (0 : Int32) then
    (k100 v13 S15)
    else
    (so_gd (so_in v14 12) fun _ =>
    so_gd (so_in (0 : Int32) 2) fun _ =>
    so_j (κ := Int32 → Option (Int32 × tm_S)) (ρ := Option (Int32 × tm_S)) (fun (v21 : Int32) =>
    LX8_alone_41 f1 f2 k100 n v21 (v14 + (1 : Int32)) S15)
    (fun J22 =>
    so_j (κ := Unit → Option (Int32 × tm_S)) (ρ := Option (Int32 × tm_S)) (fun (_u : Unit) =>
    J22 (1 : Int32))
    (fun J23 =>
    if (fX8_has f2 (S15 (23 + v14.toNatClampNeg) (0 : Int32).toNatClampNeg)) = (0 : Int32) then
    (J23 ())
    else
    (so_gd (so_in v14 12) fun _ =>
    so_gd (so_in (1 : Int32) 2) fun _ =>
    if (fX8_has f2 (S15 (23 + v14.toNatClampNeg) (1 : Int32).toNatClampNeg)) = (0 : Int32) then
    (J23 ())
    else
    (J22 (0 : Int32)))))))
set_option maxHeartbeats 4000000 in
set_option maxRecDepth 100000 in
theorem wX8_alone_41 {res : Int32} {sg' : tm_S} {S0 : so_St} {sg0 : tm_S}   (f1 : Int32) (f2 : Int32) (hT : tm_Sh S0)   (k100 : Int32 → tm_S → Option (Int32 × tm_S)) (h100 : ∀ (v28 : Int32) (S29 : tm_S), k100 v28 S29 = some (res, sg') → jg_ (tm_j S0 sg0, tm_j S0 sg', .inl (some (.int res))) kX8_alone 100 [(0, .ref (tm_a 0)), (1, .int f1), (2, .int f2), (3, .int v28)] [] (tm_j S0 S29)) : ∀ (n : Nat) (v13 : Int32) (v14 : Int32) (S15 : tm_S), LX8_alone_41 f1 f2 k100 n v13 v14 S15 = some (res, sg') → jg_ (tm_j S0 sg0, tm_j S0 sg', .inl (some (.int res))) kX8_alone 41 [(0, .ref (tm_a 0)), (1, .int f1), (2, .int f2), (3, .int v13), (4, .int v14)] [] (tm_j S0 S15) := by
  intro n
  induction n with
  | zero =>
    intro v13 v14 S15 hf
    exact so_no hf
  | succ n ih =>
    intro v13 v14 S15 hf
    rw [LX8_alone_41] at hf
    refine jr_iload dX8_alone_41 rfl ?_
    refine jr_aload_n dX8_alone_43 rfl rfl jv_rr ?_
    refine tr_getR (c := 4) hT (List.mem_of_getElem? (i := 3) rfl) fl_X8_23_23 dX8_alone_44 ?_
    refine jr_iconst dX8_alone_47 ic_1 ?_
    obtain ⟨g16, hf⟩ := so_gdE hf
    refine tr_iaload hT (show tm_k 4 = 50 from rfl) rfl (so_inE g16) dX8_alone_48 ?_
    refine jr_icmp_ge (tgt := 100) dX8_alone_49 rfl (fun c17 => ?_) (fun c17 => ?_)
    · have hf := so_t c17 hf
      refine jr_sub [0, 1, 2, 3] rfl ?_
      exact h100 v13 S15 hf
    · have hf := so_f c17 hf
      refine jr_iload_n dX8_alone_52 rfl rfl ?_
      refine jr_if_eq (tgt := 100) dX8_alone_53 rfl (fun c18 => ?_) (fun c18 => ?_)
      · have hf := so_t c18 hf
        refine jr_sub [0, 1, 2, 3] rfl ?_
        exact h100 v13 S15 hf
      · have hf := so_f c18 hf
        refine jr_iload_n dX8_alone_56 rfl rfl ?_
        refine jr_aload_n dX8_alone_57 rfl rfl jv_rr ?_
        refine tr_getR (c := 22) hT (List.mem_of_getElem? (i := 9) rfl) fl_X8_43_23 dX8_alone_58 ?_
        refine jr_iload dX8_alone_61 rfl ?_
        obtain ⟨g19, hf⟩ := so_gdE hf
        refine tr_aaload (g' := 23) hT (show tm_k 22 = 56 from rfl) rfl rfl (so_inE g19) dX8_alone_63 ?_
        refine jr_iconst dX8_alone_64 ic_0 ?_
        obtain ⟨g20, hf⟩ := so_gdE hf
        refine tr_iaload hT (tm_rk_22 (so_inE g19)) (tm_rl_22 (so_inE g19)) (so_inE g20) dX8_alone_65 ?_
        refine jr_call (st := []) lk_X8_370 (wX8_has f2 (S15 (23 + v14.toNatClampNeg) (0 : Int32).toNatClampNeg) hT S15 rfl) jk_r0 rfl rfl (so_le rfl) (so_le rfl) dX8_alone_66 ?_
        refine so_jE hf (fun J => ∀ (v21 : Int32), J v21 = some (res, sg') → jg_ (tm_j S0 sg0, tm_j S0 sg', .inl (some (.int res))) kX8_alone 93 [(0, .ref (tm_a 0)), (1, .int f1), (2, .int f2), (4, .int v14)] [.int v21] (tm_j S0 S15)) (fun v21 hf => ?_) (fun J22 hJ22 hf => ?_)
        · refine jr_istore_n (lv' := [(0, .ref (tm_a 0)), (1, .int f1), (2, .int f2), (3, .int v21), (4, .int v14)]) dX8_alone_93 rfl (so_le rfl) rfl ?_
          refine jr_iinc (v := v14 + (1 : Int32)) (lv' := [(0, .ref (tm_a 0)), (1, .int f1), (2, .int f2), (3, .int v21), (4, .int (v14 + (1 : Int32)))]) dX8_alone_94 rfl rfl (so_le rfl) rfl ?_
          refine jr_goto (tgt := 41) dX8_alone_97 rfl ?_
          exact ih v21 (v14 + (1 : Int32)) S15 hf
        · refine so_jE hf (fun J => ∀ (u0 : Unit), J u0 = some (res, sg') → jg_ (tm_j S0 sg0, tm_j S0 sg', .inl (some (.int res))) kX8_alone 88 [(0, .ref (tm_a 0)), (1, .int f1), (2, .int f2), (4, .int v14)] [] (tm_j S0 S15)) (fun _u hf => ?_) (fun J23 hJ23 hf => ?_)
          · refine jr_iconst dX8_alone_88 ic_1 ?_
            refine jr_goto (tgt := 93) dX8_alone_89 rfl ?_
            exact hJ22 (1 : Int32) hf
          · refine jr_if_eq (tgt := 88) dX8_alone_69 rfl (fun c24 => ?_) (fun c24 => ?_)
            · have hf := so_t c24 hf
              refine jr_sub [0, 1, 2, 4] rfl ?_
              exact hJ23 () hf
            · have hf := so_f c24 hf
              refine jr_iload_n dX8_alone_72 rfl rfl ?_
              refine jr_aload_n dX8_alone_73 rfl rfl jv_rr ?_
              refine tr_getR (c := 22) hT (List.mem_of_getElem? (i := 9) rfl) fl_X8_43_23 dX8_alone_74 ?_
              refine jr_iload dX8_alone_77 rfl ?_
              obtain ⟨g25, hf⟩ := so_gdE hf
              refine tr_aaload (g' := 23) hT (show tm_k 22 = 56 from rfl) rfl rfl (so_inE g25) dX8_alone_79 ?_
              refine jr_iconst dX8_alone_80 ic_1 ?_
              obtain ⟨g26, hf⟩ := so_gdE hf
              refine tr_iaload hT (tm_rk_22 (so_inE g25)) (tm_rl_22 (so_inE g25)) (so_inE g26) dX8_alone_81 ?_
              refine jr_call (st := []) lk_X8_370 (wX8_has f2 (S15 (23 + v14.toNatClampNeg) (1 : Int32).toNatClampNeg) hT S15 rfl) jk_r0 rfl rfl (so_le rfl) (so_le rfl) dX8_alone_82 ?_
              refine jr_if_ne (tgt := 92) dX8_alone_85 rfl (fun c27 => ?_) (fun c27 => ?_)
              · have hf := so_f c27 hf
                refine jr_iconst dX8_alone_92 ic_0 ?_
                refine jr_sub [0, 1, 2, 4] rfl ?_
                exact hJ22 (0 : Int32) hf
              · have hf := so_t c27 hf
                refine jr_sub [0, 1, 2, 4] rfl ?_
                exact hJ23 () hf
def LX8_alone_9  : Nat → Int32 → Int32 → tm_S → Option (Int32 × tm_S)
  | 0, _, _, _ => none
  | n + 1, v2, v3, S4 =>
    so_gd (so_in (0 : Int32) 4) fun _ =>
    if ((1 : Int32) <<< ((S4 4 (0 : Int32).toNatClampNeg) &&& 31)) ≤ v3 then
    (some (v2, S4))
    else
    ((fX8_ones v3 S4).bind fun r8 =>
    (fX8_ones v2 S4).bind fun r10 =>
    so_j (κ := Int32 → Option (Int32 × tm_S)) (ρ := Option (Int32 × tm_S)) (fun (v11 : Int32) =>
    LX8_alone_41 v2 v3 (fun (v30 : Int32) (S31 : tm_S) =>
    so_j (κ := Int32 → Option (Int32 × tm_S)) (ρ := Option (Int32 × tm_S)) (fun (v32 : Int32) =>
    LX8_alone_9 n v32 (v3 + (1 : Int32)) S31)
    (fun J33 =>
    if v30 = (0 : Int32) then
    (J33 v2)
    else
    (J33 v3))) so_N v11 (0 : Int32) S4)
    (fun J12 =>
    if r8 ≤ r10 then
    (J12 (0 : Int32))
    else
    (J12 (1 : Int32))))
set_option maxHeartbeats 4000000 in
set_option maxRecDepth 100000 in
theorem wX8_alone_9 {res : Int32} {sg' : tm_S} {S0 : so_St} {sg0 : tm_S}    (hT : tm_Sh S0)   : ∀ (n : Nat) (v2 : Int32) (v3 : Int32) (S4 : tm_S), LX8_alone_9 n v2 v3 S4 = some (res, sg') → jg_ (tm_j S0 sg0, tm_j S0 sg', .inl (some (.int res))) kX8_alone 9 [(0, .ref (tm_a 0)), (1, .int v2), (2, .int v3)] [] (tm_j S0 S4) := by
  intro n
  induction n with
  | zero =>
    intro v2 v3 S4 hf
    exact so_no hf
  | succ n ih =>
    intro v2 v3 S4 hf
    rw [LX8_alone_9] at hf
    refine jr_iload_n dX8_alone_9 rfl rfl ?_
    refine jr_iconst dX8_alone_10 ic_1 ?_
    refine jr_aload_n dX8_alone_11 rfl rfl jv_rr ?_
    refine tr_getR (c := 4) hT (List.mem_of_getElem? (i := 3) rfl) fl_X8_23_23 dX8_alone_12 ?_
    refine jr_iconst dX8_alone_15 ic_0 ?_
    obtain ⟨g5, hf⟩ := so_gdE hf
    refine tr_iaload hT (show tm_k 4 = 50 from rfl) rfl (so_inE g5) dX8_alone_16 ?_
    refine jr_ishl dX8_alone_17 ?_
    refine jr_icmp_ge (tgt := 116) dX8_alone_18 rfl (fun c6 => ?_) (fun c6 => ?_)
    · have hf := so_t c6 hf
      refine jr_iload_n dX8_alone_116 rfl rfl ?_
      obtain ⟨rfl, rfl⟩ := so_e2 hf
      exact jr_iret rfl rfl dX8_alone_117
    · have hf := so_f c6 hf
      refine jr_iload_n dX8_alone_21 rfl rfl ?_
      obtain ⟨r8, h7, hf⟩ := so_b hf
      refine jr_call (st := []) lk_X8_367 (wX8_ones v3 hT S4 h7) jk_r0 rfl rfl (so_le rfl) (so_le rfl) dX8_alone_22 ?_
      refine jr_iload_n dX8_alone_25 rfl rfl ?_
      obtain ⟨r10, h9, hf⟩ := so_b hf
      refine jr_call (st := [.int r8]) lk_X8_367 (wX8_ones v2 hT S4 h9) jk_r0 rfl rfl (so_le rfl) (so_le rfl) dX8_alone_26 ?_
      refine so_jE hf (fun J => ∀ (v11 : Int32), J v11 = some (res, sg') → jg_ (tm_j S0 sg0, tm_j S0 sg', .inl (some (.int res))) kX8_alone 37 [(0, .ref (tm_a 0)), (1, .int v2), (2, .int v3)] [.int v11] (tm_j S0 S4)) (fun v11 hf => ?_) (fun J12 hJ12 hf => ?_)
      · refine jr_istore_n (lv' := [(0, .ref (tm_a 0)), (1, .int v2), (2, .int v3), (3, .int v11)]) dX8_alone_37 rfl (so_le rfl) rfl ?_
        refine jr_iconst dX8_alone_38 ic_0 ?_
        refine jr_istore (lv' := [(0, .ref (tm_a 0)), (1, .int v2), (2, .int v3), (3, .int v11), (4, .int (0 : Int32))]) dX8_alone_39 (so_le rfl) rfl ?_
        refine wX8_alone_41 v2 v3 hT _ (fun v30 S31 hf => ?_) so_N v11 (0 : Int32) S4 hf
        refine jr_iload_n dX8_alone_100 rfl rfl ?_
        refine so_jE hf (fun J => ∀ (v32 : Int32), J v32 = some (res, sg') → jg_ (tm_j S0 sg0, tm_j S0 sg', .inl (some (.int res))) kX8_alone 109 [(0, .ref (tm_a 0)), (2, .int v3)] [.int v32] (tm_j S0 S31)) (fun v32 hf => ?_) (fun J33 hJ33 hf => ?_)
        · refine jr_istore_n (lv' := [(0, .ref (tm_a 0)), (1, .int v32), (2, .int v3)]) dX8_alone_109 rfl (so_le rfl) rfl ?_
          refine jr_iinc (v := v3 + (1 : Int32)) (lv' := [(0, .ref (tm_a 0)), (1, .int v32), (2, .int (v3 + (1 : Int32)))]) dX8_alone_110 rfl rfl (so_le rfl) rfl ?_
          refine jr_goto (tgt := 9) dX8_alone_113 rfl ?_
          exact ih v32 (v3 + (1 : Int32)) S31 hf
        · refine jr_if_eq (tgt := 108) dX8_alone_101 rfl (fun c34 => ?_) (fun c34 => ?_)
          · have hf := so_t c34 hf
            refine jr_iload_n dX8_alone_108 rfl rfl ?_
            refine jr_sub [0, 2] rfl ?_
            exact hJ33 v2 hf
          · have hf := so_f c34 hf
            refine jr_iload_n dX8_alone_104 rfl rfl ?_
            refine jr_goto (tgt := 109) dX8_alone_105 rfl ?_
            refine jr_sub [0, 2] rfl ?_
            exact hJ33 v3 hf
      · refine jr_icmp_le (tgt := 36) dX8_alone_29 rfl (fun c35 => ?_) (fun c35 => ?_)
        · have hf := so_t c35 hf
          refine jr_iconst dX8_alone_36 ic_0 ?_
          exact hJ12 (0 : Int32) hf
        · have hf := so_f c35 hf
          refine jr_iconst dX8_alone_32 ic_1 ?_
          refine jr_goto (tgt := 37) dX8_alone_33 rfl ?_
          exact hJ12 (1 : Int32) hf
def fX8_alone  (sg : tm_S) : Option (Int32 × tm_S) :=
  tm_let (tm_up sg 0 0 (0 : Int32)) fun S1 =>
  LX8_alone_9 so_N (0 : Int32) (0 : Int32) S1
set_option maxHeartbeats 4000000 in
set_option maxRecDepth 100000 in
theorem wX8_alone {res : Int32} {sg' : tm_S} {S0 : so_St}   (hT : tm_Sh S0) (sg : tm_S)  (hf : fX8_alone sg = some (res, sg')) : jx_Sp 1 yX8_alone (ws_ yX8_alone cX8_alone 5 (Option.some Jvm.ClassFile.FieldType.int)) [.ref (tm_a 0)] (tm_j S0 sg) (.inl (some (.int res))) (tm_j S0 sg') := by
  refine jx_of (plainFor_of_name (by decide)) (so_le rfl) ?_
  show jg_ ((tm_j S0 sg), (tm_j S0 sg'), .inl (some (.int res))) kX8_alone 0 [(0, .ref (tm_a 0))] [] (tm_j S0 sg)
  unfold fX8_alone at hf
  refine jr_aload_n dX8_alone_0 rfl rfl jv_rr ?_
  refine jr_iconst dX8_alone_1 ic_0 ?_
  refine tr_putI fp_X8_106_23 dX8_alone_2 ?_
  refine tm_let_e hf (fun S1 hf => ?_)
  refine jr_iconst dX8_alone_5 ic_0 ?_
  refine jr_istore_n (lv' := [(0, .ref (tm_a 0)), (1, .int (0 : Int32))]) dX8_alone_6 rfl (so_le rfl) rfl ?_
  refine jr_iconst dX8_alone_7 ic_0 ?_
  refine jr_istore_n (lv' := [(0, .ref (tm_a 0)), (1, .int (0 : Int32)), (2, .int (0 : Int32))]) dX8_alone_8 rfl (so_le rfl) rfl ?_
  refine wX8_alone_9 hT so_N (0 : Int32) (0 : Int32) S1 hf

/- X8_price -/
abbrev kX8_price : jx_K := (cX8_price, 14, RX8, 1, (Option.some Jvm.ClassFile.FieldType.long), "price", [])
def LX8_price_71 (f1 : Int32) (f2 : Int32) (f3 : Int32) (f4 : Int64) (f6 : Int64) (f8 : Int32) (k111 : Int64 → tm_S → Option (Int64 × tm_S)) : Nat → Int64 → Int32 → tm_S → Option (Int64 × tm_S)
  | 0, _, _, _ => none
  | n + 1, v13, v14, S15 =>
    if f2 < v14 then
    (k111 v13 S15)
    else
    (so_j (κ := Int64 → Option (Int64 × tm_S)) (ρ := Option (Int64 × tm_S)) (fun (v17 : Int64) =>
    LX8_price_71 f1 f2 f3 f4 f6 f8 k111 n (v13 + v17) (v14 + (1 : Int32)) S15)
    (fun J18 =>
    if (lg_cmp (v14.toInt64 * f6) f4) ≤ (0 : Int32) then
    (J18 f4)
    else
    (J18 (v14.toInt64 * f6))))
set_option maxHeartbeats 4000000 in
set_option maxRecDepth 100000 in
theorem wX8_price_71 {res : Int64} {sg' : tm_S} {S0 : so_St} {sg0 : tm_S}   (f1 : Int32) (f2 : Int32) (f3 : Int32) (f4 : Int64) (f6 : Int64) (f8 : Int32) (hT : tm_Sh S0)   (k111 : Int64 → tm_S → Option (Int64 × tm_S)) (h111 : ∀ (v20 : Int64) (S21 : tm_S), k111 v20 S21 = some (res, sg') → jg_ (tm_j S0 sg0, tm_j S0 sg', .inl (some (.long res))) kX8_price 111 [(1, .int f1), (2, .int f2), (3, .int f3), (6, .long f6), (8, .int f8), (9, .long v20)] [] (tm_j S0 S21)) : ∀ (n : Nat) (v13 : Int64) (v14 : Int32) (S15 : tm_S), LX8_price_71 f1 f2 f3 f4 f6 f8 k111 n v13 v14 S15 = some (res, sg') → jg_ (tm_j S0 sg0, tm_j S0 sg', .inl (some (.long res))) kX8_price 71 [(1, .int f1), (2, .int f2), (3, .int f3), (4, .long f4), (6, .long f6), (8, .int f8), (9, .long v13), (11, .int v14)] [] (tm_j S0 S15) := by
  intro n
  induction n with
  | zero =>
    intro v13 v14 S15 hf
    exact so_no hf
  | succ n ih =>
    intro v13 v14 S15 hf
    rw [LX8_price_71] at hf
    refine jr_iload dX8_price_71 rfl ?_
    refine jr_iload_n dX8_price_73 rfl rfl ?_
    refine jr_icmp_gt (tgt := 111) dX8_price_74 rfl (fun c16 => ?_) (fun c16 => ?_)
    · have hf := so_t c16 hf
      refine jr_sub [0, 1, 2, 4, 5, 6] rfl ?_
      exact h111 v13 S15 hf
    · have hf := so_f c16 hf
      refine jr_lload dX8_price_77 rfl ?_
      refine jr_iload dX8_price_79 rfl ?_
      refine jr_i2l dX8_price_81 ?_
      refine jr_lload dX8_price_82 rfl ?_
      refine jr_lmul dX8_price_84 ?_
      refine jr_lload dX8_price_85 rfl ?_
      refine jr_lcmp dX8_price_87 ?_
      refine so_jE hf (fun J => ∀ (v17 : Int64), J v17 = some (res, sg') → jg_ (tm_j S0 sg0, tm_j S0 sg', .inl (some (.long res))) kX8_price 102 [(1, .int f1), (2, .int f2), (3, .int f3), (4, .long f4), (6, .long f6), (8, .int f8), (11, .int v14)] [.long v17, .long v13] (tm_j S0 S15)) (fun v17 hf => ?_) (fun J18 hJ18 hf => ?_)
      · refine jr_ladd dX8_price_102 ?_
        refine jr_lstore (lv' := [(1, .int f1), (2, .int f2), (3, .int f3), (4, .long f4), (6, .long f6), (8, .int f8), (9, .long (v13 + v17)), (11, .int v14)]) dX8_price_103 (so_le rfl) rfl rfl ?_
        refine jr_iinc (v := v14 + (1 : Int32)) (lv' := [(1, .int f1), (2, .int f2), (3, .int f3), (4, .long f4), (6, .long f6), (8, .int f8), (9, .long (v13 + v17)), (11, .int (v14 + (1 : Int32)))]) dX8_price_105 rfl rfl (so_le rfl) rfl ?_
        refine jr_goto (tgt := 71) dX8_price_108 rfl ?_
        exact ih (v13 + v17) (v14 + (1 : Int32)) S15 hf
      · refine jr_if_le (tgt := 100) dX8_price_88 rfl (fun c19 => ?_) (fun c19 => ?_)
        · have hf := so_t c19 hf
          refine jr_lload dX8_price_100 rfl ?_
          refine jr_sub [0, 1, 2, 3, 4, 5, 7] rfl ?_
          exact hJ18 f4 hf
        · have hf := so_f c19 hf
          refine jr_iload dX8_price_91 rfl ?_
          refine jr_i2l dX8_price_93 ?_
          refine jr_lload dX8_price_94 rfl ?_
          refine jr_lmul dX8_price_96 ?_
          refine jr_goto (tgt := 102) dX8_price_97 rfl ?_
          refine jr_sub [0, 1, 2, 3, 4, 5, 7] rfl ?_
          exact hJ18 (v14.toInt64 * f6) hf
def LX8_price_59 (f1 : Int32) (f2 : Int32) (f3 : Int32) (k128 : Int64 → Int64 → tm_S → Option (Int64 × tm_S)) : Nat → Int64 → Int64 → Int32 → tm_S → Option (Int64 × tm_S)
  | 0, _, _, _, _ => none
  | n + 1, v8, v9, v10, S11 =>
    if f1 ≤ v10 then
    (k128 v8 v9 S11)
    else
    (LX8_price_71 f1 f2 f3 v8 v9 v10 (fun (v22 : Int64) (S23 : tm_S) =>
    LX8_price_59 f1 f2 f3 k128 n v22 (v9 * f2.toInt64) (v10 + (1 : Int32)) S23) so_N (0 : Int64) (1 : Int32) S11)
set_option maxHeartbeats 4000000 in
set_option maxRecDepth 100000 in
theorem wX8_price_59 {res : Int64} {sg' : tm_S} {S0 : so_St} {sg0 : tm_S}   (f1 : Int32) (f2 : Int32) (f3 : Int32) (hT : tm_Sh S0)   (k128 : Int64 → Int64 → tm_S → Option (Int64 × tm_S)) (h128 : ∀ (v24 : Int64) (v25 : Int64) (S26 : tm_S), k128 v24 v25 S26 = some (res, sg') → jg_ (tm_j S0 sg0, tm_j S0 sg', .inl (some (.long res))) kX8_price 128 [(3, .int f3), (4, .long v24), (6, .long v25)] [] (tm_j S0 S26)) : ∀ (n : Nat) (v8 : Int64) (v9 : Int64) (v10 : Int32) (S11 : tm_S), LX8_price_59 f1 f2 f3 k128 n v8 v9 v10 S11 = some (res, sg') → jg_ (tm_j S0 sg0, tm_j S0 sg', .inl (some (.long res))) kX8_price 59 [(1, .int f1), (2, .int f2), (3, .int f3), (4, .long v8), (6, .long v9), (8, .int v10)] [] (tm_j S0 S11) := by
  intro n
  induction n with
  | zero =>
    intro v8 v9 v10 S11 hf
    exact so_no hf
  | succ n ih =>
    intro v8 v9 v10 S11 hf
    rw [LX8_price_59] at hf
    refine jr_iload dX8_price_59 rfl ?_
    refine jr_iload_n dX8_price_61 rfl rfl ?_
    refine jr_icmp_ge (tgt := 128) dX8_price_62 rfl (fun c12 => ?_) (fun c12 => ?_)
    · have hf := so_t c12 hf
      refine jr_sub [2, 3, 4] rfl ?_
      exact h128 v8 v9 S11 hf
    · have hf := so_f c12 hf
      refine jr_lconst dX8_price_65 lc_0 ?_
      refine jr_lstore (lv' := [(1, .int f1), (2, .int f2), (3, .int f3), (4, .long v8), (6, .long v9), (8, .int v10), (9, .long (0 : Int64))]) dX8_price_66 (so_le rfl) rfl rfl ?_
      refine jr_iconst dX8_price_68 ic_1 ?_
      refine jr_istore (lv' := [(1, .int f1), (2, .int f2), (3, .int f3), (4, .long v8), (6, .long v9), (8, .int v10), (9, .long (0 : Int64)), (11, .int (1 : Int32))]) dX8_price_69 (so_le rfl) rfl ?_
      refine wX8_price_71 f1 f2 f3 v8 v9 v10 hT _ (fun v22 S23 hf => ?_) so_N (0 : Int64) (1 : Int32) S11 hf
      refine jr_lload dX8_price_111 rfl ?_
      refine jr_lstore (lv' := [(1, .int f1), (2, .int f2), (3, .int f3), (4, .long v22), (6, .long v9), (8, .int v10), (9, .long v22)]) dX8_price_113 (so_le rfl) rfl rfl ?_
      refine jr_lload dX8_price_115 rfl ?_
      refine jr_iload_n dX8_price_117 rfl rfl ?_
      refine jr_i2l dX8_price_118 ?_
      refine jr_lmul dX8_price_119 ?_
      refine jr_lstore (lv' := [(1, .int f1), (2, .int f2), (3, .int f3), (4, .long v22), (6, .long (v9 * f2.toInt64)), (8, .int v10), (9, .long v22)]) dX8_price_120 (so_le rfl) rfl rfl ?_
      refine jr_iinc (v := v10 + (1 : Int32)) (lv' := [(1, .int f1), (2, .int f2), (3, .int f3), (4, .long v22), (6, .long (v9 * f2.toInt64)), (8, .int (v10 + (1 : Int32))), (9, .long v22)]) dX8_price_122 rfl rfl (so_le rfl) rfl ?_
      refine jr_goto (tgt := 59) dX8_price_125 rfl ?_
      refine jr_sub [0, 1, 2, 3, 4, 5] rfl ?_
      exact ih v22 (v9 * f2.toInt64) (v10 + (1 : Int32)) S23 hf
def LX8_price_136 (f3 : Int32) (f4 : Int64) (f6 : Int64) (k161 : Int64 → tm_S → Option (Int64 × tm_S)) : Nat → Int64 → Int64 → tm_S → Option (Int64 × tm_S)
  | 0, _, _, _ => none
  | n + 1, v30, v31, S32 =>
    if (lg_cmp v31 (0 : Int64)) = (0 : Int32) then
    (k161 v30 S32)
    else
    (so_gd (so_ne0L v31) fun _ =>
    LX8_price_136 f3 f4 f6 k161 n v31 (v30 - v30 / v31 * v31) S32)
set_option maxHeartbeats 4000000 in
set_option maxRecDepth 100000 in
theorem wX8_price_136 {res : Int64} {sg' : tm_S} {S0 : so_St} {sg0 : tm_S}   (f3 : Int32) (f4 : Int64) (f6 : Int64) (hT : tm_Sh S0)   (k161 : Int64 → tm_S → Option (Int64 × tm_S)) (h161 : ∀ (v35 : Int64) (S36 : tm_S), k161 v35 S36 = some (res, sg') → jg_ (tm_j S0 sg0, tm_j S0 sg', .inl (some (.long res))) kX8_price 161 [(3, .int f3), (4, .long f4), (6, .long f6), (8, .long v35)] [] (tm_j S0 S36)) : ∀ (n : Nat) (v30 : Int64) (v31 : Int64) (S32 : tm_S), LX8_price_136 f3 f4 f6 k161 n v30 v31 S32 = some (res, sg') → jg_ (tm_j S0 sg0, tm_j S0 sg', .inl (some (.long res))) kX8_price 136 [(3, .int f3), (4, .long f4), (6, .long f6), (8, .long v30), (10, .long v31)] [] (tm_j S0 S32) := by
  intro n
  induction n with
  | zero =>
    intro v30 v31 S32 hf
    exact so_no hf
  | succ n ih =>
    intro v30 v31 S32 hf
    rw [LX8_price_136] at hf
    refine jr_lload dX8_price_136 rfl ?_
    refine jr_lconst dX8_price_138 lc_0 ?_
    refine jr_lcmp dX8_price_139 ?_
    refine jr_if_eq (tgt := 161) dX8_price_140 rfl (fun c33 => ?_) (fun c33 => ?_)
    · have hf := so_t c33 hf
      refine jr_sub [0, 1, 2, 3] rfl ?_
      exact h161 v30 S32 hf
    · have hf := so_f c33 hf
      refine jr_lload dX8_price_143 rfl ?_
      refine jr_lload dX8_price_145 rfl ?_
      obtain ⟨g34, hf⟩ := so_gdE hf
      refine jr_lrem dX8_price_147 (so_ne0LE g34) ?_
      refine jr_lstore (lv' := [(3, .int f3), (4, .long f4), (6, .long f6), (8, .long v30), (10, .long v31), (12, .long (v30 - v30 / v31 * v31))]) dX8_price_148 (so_le rfl) rfl rfl ?_
      refine jr_lload dX8_price_150 rfl ?_
      refine jr_lstore (lv' := [(3, .int f3), (4, .long f4), (6, .long f6), (8, .long v31), (10, .long v31), (12, .long (v30 - v30 / v31 * v31))]) dX8_price_152 (so_le rfl) rfl rfl ?_
      refine jr_lload dX8_price_154 rfl ?_
      refine jr_lstore (lv' := [(3, .int f3), (4, .long f4), (6, .long f6), (8, .long v31), (10, .long (v30 - v30 / v31 * v31)), (12, .long (v30 - v30 / v31 * v31))]) dX8_price_156 (so_le rfl) rfl rfl ?_
      refine jr_goto (tgt := 136) dX8_price_158 rfl ?_
      refine jr_sub [0, 1, 2, 3, 4] rfl ?_
      exact ih v31 (v30 - v30 / v31 * v31) S32 hf
def fX8_price (a1 : Int32) (a2 : Int32) (a3 : Int32) (sg : tm_S) : Option (Int64 × tm_S) :=
  tm_let (tm_up sg 0 0 (0 : Int32)) fun S1 =>
  so_j (κ := Int32 → Option (Int64 × tm_S)) (ρ := Option (Int64 × tm_S)) (fun (v2 : Int32) =>
  tm_b2 (fX8_bad v2 (1 : Int32) (1 : Int32) S1) fun r5 S6 =>
  if r5 = (0 : Int32) then
  (LX8_price_59 a1 a2 a3 (fun (v27 : Int64) (v28 : Int64) (S29 : tm_S) =>
  LX8_price_136 a3 v27 v28 (fun (v37 : Int64) (S38 : tm_S) =>
  if a3 = (0 : Int32) then
  (so_gd (so_ne0L v37) fun _ =>
  some ((v27 / v37), S38))
  else
  (so_gd (so_ne0L v37) fun _ =>
  some ((v28 / v37), S38))) so_N v28 v27 S29) so_N (0 : Int64) (1 : Int64) (0 : Int32) S6)
  else
  (some ((0 : Int64), S6)))
  (fun J3 =>
  so_j (κ := Unit → Option (Int64 × tm_S)) (ρ := Option (Int64 × tm_S)) (fun (_u : Unit) =>
  J3 (1 : Int32))
  (fun J42 =>
  if (fX8_in a1 (1 : Int32) (6 : Int32)) = (0 : Int32) then
  (J42 ())
  else
  (if (fX8_in a2 (1 : Int32) (9 : Int32)) = (0 : Int32) then
  (J42 ())
  else
  (if (fX8_in a3 (0 : Int32) (1 : Int32)) = (0 : Int32) then
  (J42 ())
  else
  (J3 (0 : Int32))))))
set_option maxHeartbeats 4000000 in
set_option maxRecDepth 100000 in
theorem wX8_price {res : Int64} {sg' : tm_S} {S0 : so_St}  (a1 : Int32) (a2 : Int32) (a3 : Int32) (hT : tm_Sh S0) (sg : tm_S)  (hf : fX8_price a1 a2 a3 sg = some (res, sg')) : jx_Sp 1 yX8_price (ws_ yX8_price cX8_price 14 (Option.some Jvm.ClassFile.FieldType.long)) [.ref (tm_a 0), .int a1, .int a2, .int a3] (tm_j S0 sg) (.inl (some (.long res))) (tm_j S0 sg') := by
  refine jx_of (plainFor_of_name (by decide)) (so_le rfl) ?_
  show jg_ ((tm_j S0 sg), (tm_j S0 sg'), .inl (some (.long res))) kX8_price 0 [(0, .ref (tm_a 0)), (1, .int a1), (2, .int a2), (3, .int a3)] [] (tm_j S0 sg)
  unfold fX8_price at hf
  refine jr_aload_n dX8_price_0 rfl rfl jv_rr ?_
  refine jr_iconst dX8_price_1 ic_0 ?_
  refine tr_putI fp_X8_106_23 dX8_price_2 ?_
  refine tm_let_e hf (fun S1 hf => ?_)
  refine jr_aload_n dX8_price_5 rfl rfl jv_rr ?_
  refine jr_iload_n dX8_price_6 rfl rfl ?_
  refine jr_iconst dX8_price_7 ic_1 ?_
  refine jr_bipush dX8_price_8 bp_6 ?_
  refine jr_call (st := [.ref (tm_a 0)]) lk_X8_140 (wX8_in a1 (1 : Int32) (6 : Int32) hT S1 rfl) jk_r0 rfl rfl (so_le rfl) (so_le rfl) dX8_price_10 ?_
  refine so_jE hf (fun J => ∀ (v2 : Int32), J v2 = some (res, sg') → jg_ (tm_j S0 sg, tm_j S0 sg', .inl (some (.long res))) kX8_price 40 [(1, .int a1), (2, .int a2), (3, .int a3)] [.int v2, .ref (tm_a 0)] (tm_j S0 S1)) (fun v2 hf => ?_) (fun J3 hJ3 hf => ?_)
  · refine jr_iconst dX8_price_40 ic_1 ?_
    refine jr_iconst dX8_price_41 ic_1 ?_
    obtain ⟨r5, S6, h4, hf⟩ := tm_b2E hf
    refine jr_callM (st := []) lk_X8_189_23 (wX8_bad v2 (1 : Int32) (1 : Int32) hT S1 h4) tm_k23 rfl rfl rfl (so_le rfl) (so_le rfl) dX8_price_42 ?_
    refine jr_if_eq (tgt := 50) dX8_price_45 rfl (fun c7 => ?_) (fun c7 => ?_)
    · have hf := so_t c7 hf
      refine jr_lconst dX8_price_50 lc_0 ?_
      refine jr_lstore (lv' := [(1, .int a1), (2, .int a2), (3, .int a3), (4, .long (0 : Int64))]) dX8_price_51 (so_le rfl) rfl rfl ?_
      refine jr_lconst dX8_price_53 lc_1 ?_
      refine jr_lstore (lv' := [(1, .int a1), (2, .int a2), (3, .int a3), (4, .long (0 : Int64)), (6, .long (1 : Int64))]) dX8_price_54 (so_le rfl) rfl rfl ?_
      refine jr_iconst dX8_price_56 ic_0 ?_
      refine jr_istore (lv' := [(1, .int a1), (2, .int a2), (3, .int a3), (4, .long (0 : Int64)), (6, .long (1 : Int64)), (8, .int (0 : Int32))]) dX8_price_57 (so_le rfl) rfl ?_
      refine wX8_price_59 a1 a2 a3 hT _ (fun v27 v28 S29 hf => ?_) so_N (0 : Int64) (1 : Int64) (0 : Int32) S6 hf
      refine jr_lload dX8_price_128 rfl ?_
      refine jr_lstore (lv' := [(3, .int a3), (4, .long v27), (6, .long v28), (8, .long v28)]) dX8_price_130 (so_le rfl) rfl rfl ?_
      refine jr_lload dX8_price_132 rfl ?_
      refine jr_lstore (lv' := [(3, .int a3), (4, .long v27), (6, .long v28), (8, .long v28), (10, .long v27)]) dX8_price_134 (so_le rfl) rfl rfl ?_
      refine wX8_price_136 a3 v27 v28 hT _ (fun v37 S38 hf => ?_) so_N v28 v27 S29 hf
      refine jr_iload_n dX8_price_161 rfl rfl ?_
      refine jr_if_ne (tgt := 173) dX8_price_162 rfl (fun c39 => ?_) (fun c39 => ?_)
      · have hf := so_f c39 hf
        refine jr_lload dX8_price_173 rfl ?_
        refine jr_lload dX8_price_175 rfl ?_
        obtain ⟨g40, hf⟩ := so_gdE hf
        refine jr_ldiv dX8_price_177 (so_ne0LE g40) ?_
        obtain ⟨rfl, rfl⟩ := so_e2 hf
        exact jr_lret rfl dX8_price_178
      · have hf := so_t c39 hf
        refine jr_lload dX8_price_165 rfl ?_
        refine jr_lload dX8_price_167 rfl ?_
        obtain ⟨g41, hf⟩ := so_gdE hf
        refine jr_ldiv dX8_price_169 (so_ne0LE g41) ?_
        refine jr_goto (tgt := 178) dX8_price_170 rfl ?_
        obtain ⟨rfl, rfl⟩ := so_e2 hf
        exact jr_lret rfl dX8_price_178
    · have hf := so_f c7 hf
      refine jr_lconst dX8_price_48 lc_0 ?_
      obtain ⟨rfl, rfl⟩ := so_e2 hf
      exact jr_lret rfl dX8_price_49
  · refine so_jE hf (fun J => ∀ (u0 : Unit), J u0 = some (res, sg') → jg_ (tm_j S0 sg, tm_j S0 sg', .inl (some (.long res))) kX8_price 35 [(1, .int a1), (2, .int a2), (3, .int a3)] [.ref (tm_a 0)] (tm_j S0 S1)) (fun _u hf => ?_) (fun J42 hJ42 hf => ?_)
    · refine jr_iconst dX8_price_35 ic_1 ?_
      refine jr_goto (tgt := 40) dX8_price_36 rfl ?_
      exact hJ3 (1 : Int32) hf
    · refine jr_if_eq (tgt := 35) dX8_price_13 rfl (fun c43 => ?_) (fun c43 => ?_)
      · have hf := so_t c43 hf
        refine jr_sub [1, 2, 3] rfl ?_
        exact hJ42 () hf
      · have hf := so_f c43 hf
        refine jr_iload_n dX8_price_16 rfl rfl ?_
        refine jr_iconst dX8_price_17 ic_1 ?_
        refine jr_bipush dX8_price_18 bp_9 ?_
        refine jr_call (st := [.ref (tm_a 0)]) lk_X8_140 (wX8_in a2 (1 : Int32) (9 : Int32) hT S1 rfl) jk_r0 rfl rfl (so_le rfl) (so_le rfl) dX8_price_20 ?_
        refine jr_if_eq (tgt := 35) dX8_price_23 rfl (fun c44 => ?_) (fun c44 => ?_)
        · have hf := so_t c44 hf
          refine jr_sub [1, 2, 3] rfl ?_
          exact hJ42 () hf
        · have hf := so_f c44 hf
          refine jr_iload_n dX8_price_26 rfl rfl ?_
          refine jr_iconst dX8_price_27 ic_0 ?_
          refine jr_iconst dX8_price_28 ic_1 ?_
          refine jr_call (st := [.ref (tm_a 0)]) lk_X8_140 (wX8_in a3 (0 : Int32) (1 : Int32) hT S1 rfl) jk_r0 rfl rfl (so_le rfl) (so_le rfl) dX8_price_29 ?_
          refine jr_if_ne (tgt := 39) dX8_price_32 rfl (fun c45 => ?_) (fun c45 => ?_)
          · have hf := so_f c45 hf
            refine jr_iconst dX8_price_39 ic_0 ?_
            refine jr_sub [1, 2, 3] rfl ?_
            exact hJ3 (0 : Int32) hf
          · have hf := so_t c45 hf
            refine jr_sub [1, 2, 3] rfl ?_
            exact hJ42 () hf

/- X8_hisBy -/
abbrev kX8_hisBy : jx_K := (cX8_hisBy, 3, RX8, 0, (Option.some Jvm.ClassFile.FieldType.int), "hisBy", [])
def fX8_hisBy (a0 : Int32) (a1 : Int32) (a2 : Int32) : Int32 :=
  if a0 = (1 : Int32) then
  ((0 : Int32))
  else
  (if a1 = (0 : Int32) then
  (a2)
  else
  ((-1 : Int32)))
set_option maxHeartbeats 4000000 in
set_option maxRecDepth 100000 in
theorem wX8_hisBy {res : Int32} {S0 : so_St}  (a0 : Int32) (a1 : Int32) (a2 : Int32) (hT : tm_Sh S0) (sg : tm_S)  (hf : fX8_hisBy a0 a1 a2 = res) : jx_Sp 0 yX8_hisBy (ws_ yX8_hisBy cX8_hisBy 3 (Option.some Jvm.ClassFile.FieldType.int)) [.int a0, .int a1, .int a2] (tm_j S0 sg) (.inl (some (.int res))) (tm_j S0 sg) := by
  refine jx_of (plainFor_of_name (by decide)) (so_le rfl) ?_
  show jg_ ((tm_j S0 sg), (tm_j S0 sg), .inl (some (.int res))) kX8_hisBy 0 [(0, .int a0), (1, .int a1), (2, .int a2)] [] (tm_j S0 sg)
  unfold fX8_hisBy at hf
  refine jr_iload_n dX8_hisBy_0 rfl rfl ?_
  refine jr_iconst dX8_hisBy_1 ic_1 ?_
  refine jr_icmp_ne (tgt := 9) dX8_hisBy_2 rfl (fun c1 => ?_) (fun c1 => ?_)
  · have hf := so_f c1 hf
    refine jr_iload_n dX8_hisBy_9 rfl rfl ?_
    refine jr_if_ne (tgt := 17) dX8_hisBy_10 rfl (fun c2 => ?_) (fun c2 => ?_)
    · have hf := so_f c2 hf
      refine jr_iconst dX8_hisBy_17 ic_m1 ?_
      obtain rfl := hf
      exact jr_iret rfl rfl dX8_hisBy_18
    · have hf := so_t c2 hf
      refine jr_iload_n dX8_hisBy_13 rfl rfl ?_
      refine jr_goto (tgt := 18) dX8_hisBy_14 rfl ?_
      obtain rfl := hf
      exact jr_iret rfl rfl dX8_hisBy_18
  · have hf := so_t c1 hf
    refine jr_iconst dX8_hisBy_5 ic_0 ?_
    refine jr_goto (tgt := 18) dX8_hisBy_6 rfl ?_
    obtain rfl := hf
    exact jr_iret rfl rfl dX8_hisBy_18

/- X8_itsBy -/
abbrev kX8_itsBy : jx_K := (cX8_itsBy, 4, RX8, 0, (Option.some Jvm.ClassFile.FieldType.int), "itsBy", [])
def fX8_itsBy (a0 : Int32) (a1 : Int32) (a2 : Int32) (a3 : Int32) : Int32 :=
  if a1 = (1 : Int32) then
  ((0 : Int32))
  else
  (if a0 = (0 : Int32) then
  (a2)
  else
  (a3))
set_option maxHeartbeats 4000000 in
set_option maxRecDepth 100000 in
theorem wX8_itsBy {res : Int32} {S0 : so_St}  (a0 : Int32) (a1 : Int32) (a2 : Int32) (a3 : Int32) (hT : tm_Sh S0) (sg : tm_S)  (hf : fX8_itsBy a0 a1 a2 a3 = res) : jx_Sp 0 yX8_itsBy (ws_ yX8_itsBy cX8_itsBy 4 (Option.some Jvm.ClassFile.FieldType.int)) [.int a0, .int a1, .int a2, .int a3] (tm_j S0 sg) (.inl (some (.int res))) (tm_j S0 sg) := by
  refine jx_of (plainFor_of_name (by decide)) (so_le rfl) ?_
  show jg_ ((tm_j S0 sg), (tm_j S0 sg), .inl (some (.int res))) kX8_itsBy 0 [(0, .int a0), (1, .int a1), (2, .int a2), (3, .int a3)] [] (tm_j S0 sg)
  unfold fX8_itsBy at hf
  refine jr_iload_n dX8_itsBy_0 rfl rfl ?_
  refine jr_iconst dX8_itsBy_1 ic_1 ?_
  refine jr_icmp_ne (tgt := 9) dX8_itsBy_2 rfl (fun c1 => ?_) (fun c1 => ?_)
  · have hf := so_f c1 hf
    refine jr_iload_n dX8_itsBy_9 rfl rfl ?_
    refine jr_if_ne (tgt := 17) dX8_itsBy_10 rfl (fun c2 => ?_) (fun c2 => ?_)
    · have hf := so_f c2 hf
      refine jr_iload_n dX8_itsBy_17 rfl rfl ?_
      obtain rfl := hf
      exact jr_iret rfl rfl dX8_itsBy_18
    · have hf := so_t c2 hf
      refine jr_iload_n dX8_itsBy_13 rfl rfl ?_
      refine jr_goto (tgt := 18) dX8_itsBy_14 rfl ?_
      obtain rfl := hf
      exact jr_iret rfl rfl dX8_itsBy_18
  · have hf := so_t c1 hf
    refine jr_iconst dX8_itsBy_5 ic_0 ?_
    refine jr_goto (tgt := 18) dX8_itsBy_6 rfl ?_
    obtain rfl := hf
    exact jr_iret rfl rfl dX8_itsBy_18

/- X8_tuner -/
abbrev kX8_tuner : jx_K := (cX8_tuner, 10, RX8, 1, (Option.some Jvm.ClassFile.FieldType.int), "tuner", [])
def LX8_tuner_62 (f1 : Int32) (f2 : Int32) (f3 : Int32) (k186 : Int32 → Int32 → Int32 → tm_S → Option (Int32 × tm_S)) : Nat → Int32 → Int32 → Int32 → Int32 → tm_S → Option (Int32 × tm_S)
  | 0, _, _, _, _, _ => none
  | n + 1, v8, v9, v10, v11, S12 =>
    if (4 : Int32) ≤ v11 then
    (k186 v8 v9 v10 S12)
    else
    (so_j (κ := Int32 → Int32 → Int32 → Option (Int32 × tm_S)) (ρ := Option (Int32 × tm_S)) (fun (v14 : Int32) (v15 : Int32) (v16 : Int32) =>
    LX8_tuner_62 f1 f2 f3 k186 n v14 v15 v16 (v11 + (1 : Int32)) S12)
    (fun J17 =>
    if (fX8_hisBy (v11 / (2 : Int32)) (v11 - v11 / (2 : Int32) * (2 : Int32)) f1) < (fX8_hisBy ((1 : Int32) - (v11 / (2 : Int32))) (v11 - v11 / (2 : Int32) * (2 : Int32)) f1) then
    (J17 v8 v9 v10)
    else
    (if (fX8_itsBy (v11 / (2 : Int32)) ((1 : Int32) - (v11 - v11 / (2 : Int32) * (2 : Int32))) f1 f2) ≤ (fX8_itsBy (v11 / (2 : Int32)) (v11 - v11 / (2 : Int32) * (2 : Int32)) f1 f2) then
    (so_j (κ := Int32 → Option (Int32 × tm_S)) (ρ := Option (Int32 × tm_S)) (fun (v20 : Int32) =>
    so_j (κ := Int32 → Option (Int32 × tm_S)) (ρ := Option (Int32 × tm_S)) (fun (v22 : Int32) =>
    J17 (v8 + (1 : Int32)) v22 v20)
    (fun J23 =>
    if v8 = (0 : Int32) then
    (J23 (((10 : Int32) * (v11 / (2 : Int32))) + (v11 - v11 / (2 : Int32) * (2 : Int32))))
    else
    (J23 v9)))
    (fun J21 =>
    if v8 = (0 : Int32) then
    (J21 ((fX8_hisBy (v11 / (2 : Int32)) (v11 - v11 / (2 : Int32) * (2 : Int32)) f1) + (fX8_itsBy (v11 / (2 : Int32)) (v11 - v11 / (2 : Int32) * (2 : Int32)) f1 f2)))
    else
    (J21 v10)))
    else
    (J17 v8 v9 v10))))
set_option maxHeartbeats 4000000 in
set_option maxRecDepth 100000 in
theorem wX8_tuner_62 {res : Int32} {sg' : tm_S} {S0 : so_St} {sg0 : tm_S}   (f1 : Int32) (f2 : Int32) (f3 : Int32) (hT : tm_Sh S0)   (k186 : Int32 → Int32 → Int32 → tm_S → Option (Int32 × tm_S)) (h186 : ∀ (v26 : Int32) (v27 : Int32) (v28 : Int32) (S29 : tm_S), k186 v26 v27 v28 S29 = some (res, sg') → jg_ (tm_j S0 sg0, tm_j S0 sg', .inl (some (.int res))) kX8_tuner 186 [(3, .int f3), (4, .int v26), (5, .int v27), (6, .int v28)] [] (tm_j S0 S29)) : ∀ (n : Nat) (v8 : Int32) (v9 : Int32) (v10 : Int32) (v11 : Int32) (S12 : tm_S), LX8_tuner_62 f1 f2 f3 k186 n v8 v9 v10 v11 S12 = some (res, sg') → jg_ (tm_j S0 sg0, tm_j S0 sg', .inl (some (.int res))) kX8_tuner 62 [(1, .int f1), (2, .int f2), (3, .int f3), (4, .int v8), (5, .int v9), (6, .int v10), (7, .int v11)] [] (tm_j S0 S12) := by
  intro n
  induction n with
  | zero =>
    intro v8 v9 v10 v11 S12 hf
    exact so_no hf
  | succ n ih =>
    intro v8 v9 v10 v11 S12 hf
    rw [LX8_tuner_62] at hf
    refine jr_iload dX8_tuner_62 rfl ?_
    refine jr_iconst dX8_tuner_64 ic_4 ?_
    refine jr_icmp_ge (tgt := 186) dX8_tuner_65 rfl (fun c13 => ?_) (fun c13 => ?_)
    · have hf := so_t c13 hf
      refine jr_sub [2, 3, 4, 5] rfl ?_
      exact h186 v8 v9 v10 S12 hf
    · have hf := so_f c13 hf
      refine jr_iload dX8_tuner_68 rfl ?_
      refine jr_iconst dX8_tuner_70 ic_2 ?_
      refine jr_idiv dX8_tuner_71 (by decide) ?_
      refine jr_istore (lv' := [(1, .int f1), (2, .int f2), (3, .int f3), (4, .int v8), (5, .int v9), (6, .int v10), (7, .int v11), (8, .int (v11 / (2 : Int32)))]) dX8_tuner_72 (so_le rfl) rfl ?_
      refine jr_iload dX8_tuner_74 rfl ?_
      refine jr_iconst dX8_tuner_76 ic_2 ?_
      refine jr_irem dX8_tuner_77 (by decide) ?_
      refine jr_istore (lv' := [(1, .int f1), (2, .int f2), (3, .int f3), (4, .int v8), (5, .int v9), (6, .int v10), (7, .int v11), (8, .int (v11 / (2 : Int32))), (9, .int (v11 - v11 / (2 : Int32) * (2 : Int32)))]) dX8_tuner_78 (so_le rfl) rfl ?_
      refine jr_iconst dX8_tuner_80 ic_1 ?_
      refine jr_iload dX8_tuner_81 rfl ?_
      refine jr_isub dX8_tuner_83 ?_
      refine jr_iload dX8_tuner_84 rfl ?_
      refine jr_iload_n dX8_tuner_86 rfl rfl ?_
      refine jr_call (st := []) lk_X8_373 (wX8_hisBy ((1 : Int32) - (v11 / (2 : Int32))) (v11 - v11 / (2 : Int32) * (2 : Int32)) f1 hT S12 rfl) jk_r0 rfl rfl (so_le rfl) (so_le rfl) dX8_tuner_87 ?_
      refine jr_iload dX8_tuner_90 rfl ?_
      refine jr_iload dX8_tuner_92 rfl ?_
      refine jr_iload_n dX8_tuner_94 rfl rfl ?_
      refine jr_call (st := [.int (fX8_hisBy ((1 : Int32) - (v11 / (2 : Int32))) (v11 - v11 / (2 : Int32) * (2 : Int32)) f1)]) lk_X8_373 (wX8_hisBy (v11 / (2 : Int32)) (v11 - v11 / (2 : Int32) * (2 : Int32)) f1 hT S12 rfl) jk_r0 rfl rfl (so_le rfl) (so_le rfl) dX8_tuner_95 ?_
      refine so_jE hf (fun J => ∀ (v14 : Int32) (v15 : Int32) (v16 : Int32), J v14 v15 v16 = some (res, sg') → jg_ (tm_j S0 sg0, tm_j S0 sg', .inl (some (.int res))) kX8_tuner 180 [(1, .int f1), (2, .int f2), (3, .int f3), (4, .int v14), (5, .int v15), (6, .int v16), (7, .int v11)] [] (tm_j S0 S12)) (fun v14 v15 v16 hf => ?_) (fun J17 hJ17 hf => ?_)
      · refine jr_iinc (v := v11 + (1 : Int32)) (lv' := [(1, .int f1), (2, .int f2), (3, .int f3), (4, .int v14), (5, .int v15), (6, .int v16), (7, .int (v11 + (1 : Int32)))]) dX8_tuner_180 rfl rfl (so_le rfl) rfl ?_
        refine jr_goto (tgt := 62) dX8_tuner_183 rfl ?_
        exact ih v14 v15 v16 (v11 + (1 : Int32)) S12 hf
      · refine jr_icmp_gt (tgt := 180) dX8_tuner_98 rfl (fun c18 => ?_) (fun c18 => ?_)
        · have hf := so_t c18 hf
          refine jr_sub [0, 1, 2, 3, 4, 5, 6] rfl ?_
          exact hJ17 v8 v9 v10 hf
        · have hf := so_f c18 hf
          refine jr_iload dX8_tuner_101 rfl ?_
          refine jr_iconst dX8_tuner_103 ic_1 ?_
          refine jr_iload dX8_tuner_104 rfl ?_
          refine jr_isub dX8_tuner_106 ?_
          refine jr_iload_n dX8_tuner_107 rfl rfl ?_
          refine jr_iload_n dX8_tuner_108 rfl rfl ?_
          refine jr_call (st := []) lk_X8_376 (wX8_itsBy (v11 / (2 : Int32)) ((1 : Int32) - (v11 - v11 / (2 : Int32) * (2 : Int32))) f1 f2 hT S12 rfl) jk_r0 rfl rfl (so_le rfl) (so_le rfl) dX8_tuner_109 ?_
          refine jr_iload dX8_tuner_112 rfl ?_
          refine jr_iload dX8_tuner_114 rfl ?_
          refine jr_iload_n dX8_tuner_116 rfl rfl ?_
          refine jr_iload_n dX8_tuner_117 rfl rfl ?_
          refine jr_call (st := [.int (fX8_itsBy (v11 / (2 : Int32)) ((1 : Int32) - (v11 - v11 / (2 : Int32) * (2 : Int32))) f1 f2)]) lk_X8_376 (wX8_itsBy (v11 / (2 : Int32)) (v11 - v11 / (2 : Int32) * (2 : Int32)) f1 f2 hT S12 rfl) jk_r0 rfl rfl (so_le rfl) (so_le rfl) dX8_tuner_118 ?_
          refine jr_icmp_le (tgt := 127) dX8_tuner_121 rfl (fun c19 => ?_) (fun c19 => ?_)
          · have hf := so_t c19 hf
            refine jr_iload dX8_tuner_127 rfl ?_
            refine so_jE hf (fun J => ∀ (v20 : Int32), J v20 = some (res, sg') → jg_ (tm_j S0 sg0, tm_j S0 sg', .inl (some (.int res))) kX8_tuner 155 [(1, .int f1), (2, .int f2), (3, .int f3), (4, .int v8), (5, .int v9), (7, .int v11), (8, .int (v11 / (2 : Int32))), (9, .int (v11 - v11 / (2 : Int32) * (2 : Int32)))] [.int v20] (tm_j S0 S12)) (fun v20 hf => ?_) (fun J21 hJ21 hf => ?_)
            · refine jr_istore (lv' := [(1, .int f1), (2, .int f2), (3, .int f3), (4, .int v8), (5, .int v9), (6, .int v20), (7, .int v11), (8, .int (v11 / (2 : Int32))), (9, .int (v11 - v11 / (2 : Int32) * (2 : Int32)))]) dX8_tuner_155 (so_le rfl) rfl ?_
              refine jr_iload dX8_tuner_157 rfl ?_
              refine so_jE hf (fun J => ∀ (v22 : Int32), J v22 = some (res, sg') → jg_ (tm_j S0 sg0, tm_j S0 sg', .inl (some (.int res))) kX8_tuner 175 [(1, .int f1), (2, .int f2), (3, .int f3), (4, .int v8), (6, .int v20), (7, .int v11)] [.int v22] (tm_j S0 S12)) (fun v22 hf => ?_) (fun J23 hJ23 hf => ?_)
              · refine jr_istore (lv' := [(1, .int f1), (2, .int f2), (3, .int f3), (4, .int v8), (5, .int v22), (6, .int v20), (7, .int v11)]) dX8_tuner_175 (so_le rfl) rfl ?_
                refine jr_iinc (v := v8 + (1 : Int32)) (lv' := [(1, .int f1), (2, .int f2), (3, .int f3), (4, .int (v8 + (1 : Int32))), (5, .int v22), (6, .int v20), (7, .int v11)]) dX8_tuner_177 rfl rfl (so_le rfl) rfl ?_
                exact hJ17 (v8 + (1 : Int32)) v22 v20 hf
              · refine jr_if_ne (tgt := 173) dX8_tuner_159 rfl (fun c24 => ?_) (fun c24 => ?_)
                · have hf := so_f c24 hf
                  refine jr_iload dX8_tuner_173 rfl ?_
                  refine jr_sub [0, 1, 2, 3, 5, 6] rfl ?_
                  exact hJ23 v9 hf
                · have hf := so_t c24 hf
                  refine jr_bipush dX8_tuner_162 bp_10 ?_
                  refine jr_iload dX8_tuner_164 rfl ?_
                  refine jr_imul dX8_tuner_166 ?_
                  refine jr_iload dX8_tuner_167 rfl ?_
                  refine jr_iadd dX8_tuner_169 ?_
                  refine jr_goto (tgt := 175) dX8_tuner_170 rfl ?_
                  refine jr_sub [0, 1, 2, 3, 5, 6] rfl ?_
                  exact hJ23 (((10 : Int32) * (v11 / (2 : Int32))) + (v11 - v11 / (2 : Int32) * (2 : Int32))) hf
            · refine jr_if_ne (tgt := 153) dX8_tuner_129 rfl (fun c25 => ?_) (fun c25 => ?_)
              · have hf := so_f c25 hf
                refine jr_iload dX8_tuner_153 rfl ?_
                refine jr_sub [0, 1, 2, 3, 4, 6, 7, 8] rfl ?_
                exact hJ21 v10 hf
              · have hf := so_t c25 hf
                refine jr_iload dX8_tuner_132 rfl ?_
                refine jr_iload dX8_tuner_134 rfl ?_
                refine jr_iload_n dX8_tuner_136 rfl rfl ?_
                refine jr_call (st := []) lk_X8_373 (wX8_hisBy (v11 / (2 : Int32)) (v11 - v11 / (2 : Int32) * (2 : Int32)) f1 hT S12 rfl) jk_r0 rfl rfl (so_le rfl) (so_le rfl) dX8_tuner_137 ?_
                refine jr_iload dX8_tuner_140 rfl ?_
                refine jr_iload dX8_tuner_142 rfl ?_
                refine jr_iload_n dX8_tuner_144 rfl rfl ?_
                refine jr_iload_n dX8_tuner_145 rfl rfl ?_
                refine jr_call (st := [.int (fX8_hisBy (v11 / (2 : Int32)) (v11 - v11 / (2 : Int32) * (2 : Int32)) f1)]) lk_X8_376 (wX8_itsBy (v11 / (2 : Int32)) (v11 - v11 / (2 : Int32) * (2 : Int32)) f1 f2 hT S12 rfl) jk_r0 rfl rfl (so_le rfl) (so_le rfl) dX8_tuner_146 ?_
                refine jr_iadd dX8_tuner_149 ?_
                refine jr_goto (tgt := 155) dX8_tuner_150 rfl ?_
                refine jr_sub [0, 1, 2, 3, 4, 6, 7, 8] rfl ?_
                exact hJ21 ((fX8_hisBy (v11 / (2 : Int32)) (v11 - v11 / (2 : Int32) * (2 : Int32)) f1) + (fX8_itsBy (v11 / (2 : Int32)) (v11 - v11 / (2 : Int32) * (2 : Int32)) f1 f2)) hf
          · have hf := so_f c19 hf
            refine jr_goto (tgt := 180) dX8_tuner_124 rfl ?_
            refine jr_sub [0, 1, 2, 3, 4, 5, 6] rfl ?_
            exact hJ17 v8 v9 v10 hf
def fX8_tuner (a1 : Int32) (a2 : Int32) (a3 : Int32) (sg : tm_S) : Option (Int32 × tm_S) :=
  tm_let (tm_up sg 0 0 (0 : Int32)) fun S1 =>
  so_j (κ := Int32 → Option (Int32 × tm_S)) (ρ := Option (Int32 × tm_S)) (fun (v2 : Int32) =>
  tm_b2 (fX8_bad v2 (1 : Int32) (1 : Int32) S1) fun r5 S6 =>
  if r5 = (0 : Int32) then
  (LX8_tuner_62 a1 a2 a3 (fun (v30 : Int32) (v31 : Int32) (v32 : Int32) (S33 : tm_S) =>
  if a3 = (0 : Int32) then
  (some (v30, S33))
  else
  (if a3 = (1 : Int32) then
  (some (v31, S33))
  else
  (some (v32, S33)))) so_N (0 : Int32) (-1 : Int32) (0 : Int32) (0 : Int32) S6)
  else
  (some ((0 : Int32), S6)))
  (fun J3 =>
  so_j (κ := Unit → Option (Int32 × tm_S)) (ρ := Option (Int32 × tm_S)) (fun (_u : Unit) =>
  J3 (1 : Int32))
  (fun J36 =>
  if (fX8_in a1 (0 : Int32) (99 : Int32)) = (0 : Int32) then
  (J36 ())
  else
  (if (fX8_in a2 (0 : Int32) (99 : Int32)) = (0 : Int32) then
  (J36 ())
  else
  (if (fX8_in a3 (0 : Int32) (2 : Int32)) = (0 : Int32) then
  (J36 ())
  else
  (J3 (0 : Int32))))))
set_option maxHeartbeats 4000000 in
set_option maxRecDepth 100000 in
theorem wX8_tuner {res : Int32} {sg' : tm_S} {S0 : so_St}  (a1 : Int32) (a2 : Int32) (a3 : Int32) (hT : tm_Sh S0) (sg : tm_S)  (hf : fX8_tuner a1 a2 a3 sg = some (res, sg')) : jx_Sp 1 yX8_tuner (ws_ yX8_tuner cX8_tuner 10 (Option.some Jvm.ClassFile.FieldType.int)) [.ref (tm_a 0), .int a1, .int a2, .int a3] (tm_j S0 sg) (.inl (some (.int res))) (tm_j S0 sg') := by
  refine jx_of (plainFor_of_name (by decide)) (so_le rfl) ?_
  show jg_ ((tm_j S0 sg), (tm_j S0 sg'), .inl (some (.int res))) kX8_tuner 0 [(0, .ref (tm_a 0)), (1, .int a1), (2, .int a2), (3, .int a3)] [] (tm_j S0 sg)
  unfold fX8_tuner at hf
  refine jr_aload_n dX8_tuner_0 rfl rfl jv_rr ?_
  refine jr_iconst dX8_tuner_1 ic_0 ?_
  refine tr_putI fp_X8_106_23 dX8_tuner_2 ?_
  refine tm_let_e hf (fun S1 hf => ?_)
  refine jr_aload_n dX8_tuner_5 rfl rfl jv_rr ?_
  refine jr_iload_n dX8_tuner_6 rfl rfl ?_
  refine jr_iconst dX8_tuner_7 ic_0 ?_
  refine jr_bipush dX8_tuner_8 bp_99 ?_
  refine jr_call (st := [.ref (tm_a 0)]) lk_X8_140 (wX8_in a1 (0 : Int32) (99 : Int32) hT S1 rfl) jk_r0 rfl rfl (so_le rfl) (so_le rfl) dX8_tuner_10 ?_
  refine so_jE hf (fun J => ∀ (v2 : Int32), J v2 = some (res, sg') → jg_ (tm_j S0 sg, tm_j S0 sg', .inl (some (.int res))) kX8_tuner 40 [(1, .int a1), (2, .int a2), (3, .int a3)] [.int v2, .ref (tm_a 0)] (tm_j S0 S1)) (fun v2 hf => ?_) (fun J3 hJ3 hf => ?_)
  · refine jr_iconst dX8_tuner_40 ic_1 ?_
    refine jr_iconst dX8_tuner_41 ic_1 ?_
    obtain ⟨r5, S6, h4, hf⟩ := tm_b2E hf
    refine jr_callM (st := []) lk_X8_189_23 (wX8_bad v2 (1 : Int32) (1 : Int32) hT S1 h4) tm_k23 rfl rfl rfl (so_le rfl) (so_le rfl) dX8_tuner_42 ?_
    refine jr_if_eq (tgt := 50) dX8_tuner_45 rfl (fun c7 => ?_) (fun c7 => ?_)
    · have hf := so_t c7 hf
      refine jr_iconst dX8_tuner_50 ic_0 ?_
      refine jr_istore (lv' := [(1, .int a1), (2, .int a2), (3, .int a3), (4, .int (0 : Int32))]) dX8_tuner_51 (so_le rfl) rfl ?_
      refine jr_iconst dX8_tuner_53 ic_m1 ?_
      refine jr_istore (lv' := [(1, .int a1), (2, .int a2), (3, .int a3), (4, .int (0 : Int32)), (5, .int (-1 : Int32))]) dX8_tuner_54 (so_le rfl) rfl ?_
      refine jr_iconst dX8_tuner_56 ic_0 ?_
      refine jr_istore (lv' := [(1, .int a1), (2, .int a2), (3, .int a3), (4, .int (0 : Int32)), (5, .int (-1 : Int32)), (6, .int (0 : Int32))]) dX8_tuner_57 (so_le rfl) rfl ?_
      refine jr_iconst dX8_tuner_59 ic_0 ?_
      refine jr_istore (lv' := [(1, .int a1), (2, .int a2), (3, .int a3), (4, .int (0 : Int32)), (5, .int (-1 : Int32)), (6, .int (0 : Int32)), (7, .int (0 : Int32))]) dX8_tuner_60 (so_le rfl) rfl ?_
      refine wX8_tuner_62 a1 a2 a3 hT _ (fun v30 v31 v32 S33 hf => ?_) so_N (0 : Int32) (-1 : Int32) (0 : Int32) (0 : Int32) S6 hf
      refine jr_iload_n dX8_tuner_186 rfl rfl ?_
      refine jr_if_ne (tgt := 195) dX8_tuner_187 rfl (fun c34 => ?_) (fun c34 => ?_)
      · have hf := so_f c34 hf
        refine jr_iload_n dX8_tuner_195 rfl rfl ?_
        refine jr_iconst dX8_tuner_196 ic_1 ?_
        refine jr_icmp_ne (tgt := 205) dX8_tuner_197 rfl (fun c35 => ?_) (fun c35 => ?_)
        · have hf := so_f c35 hf
          refine jr_iload dX8_tuner_205 rfl ?_
          obtain ⟨rfl, rfl⟩ := so_e2 hf
          exact jr_iret rfl rfl dX8_tuner_207
        · have hf := so_t c35 hf
          refine jr_iload dX8_tuner_200 rfl ?_
          refine jr_goto (tgt := 207) dX8_tuner_202 rfl ?_
          obtain ⟨rfl, rfl⟩ := so_e2 hf
          exact jr_iret rfl rfl dX8_tuner_207
      · have hf := so_t c34 hf
        refine jr_iload dX8_tuner_190 rfl ?_
        refine jr_goto (tgt := 207) dX8_tuner_192 rfl ?_
        obtain ⟨rfl, rfl⟩ := so_e2 hf
        exact jr_iret rfl rfl dX8_tuner_207
    · have hf := so_f c7 hf
      refine jr_iconst dX8_tuner_48 ic_0 ?_
      obtain ⟨rfl, rfl⟩ := so_e2 hf
      exact jr_iret rfl rfl dX8_tuner_49
  · refine so_jE hf (fun J => ∀ (u0 : Unit), J u0 = some (res, sg') → jg_ (tm_j S0 sg, tm_j S0 sg', .inl (some (.int res))) kX8_tuner 35 [(1, .int a1), (2, .int a2), (3, .int a3)] [.ref (tm_a 0)] (tm_j S0 S1)) (fun _u hf => ?_) (fun J36 hJ36 hf => ?_)
    · refine jr_iconst dX8_tuner_35 ic_1 ?_
      refine jr_goto (tgt := 40) dX8_tuner_36 rfl ?_
      exact hJ3 (1 : Int32) hf
    · refine jr_if_eq (tgt := 35) dX8_tuner_13 rfl (fun c37 => ?_) (fun c37 => ?_)
      · have hf := so_t c37 hf
        refine jr_sub [1, 2, 3] rfl ?_
        exact hJ36 () hf
      · have hf := so_f c37 hf
        refine jr_iload_n dX8_tuner_16 rfl rfl ?_
        refine jr_iconst dX8_tuner_17 ic_0 ?_
        refine jr_bipush dX8_tuner_18 bp_99 ?_
        refine jr_call (st := [.ref (tm_a 0)]) lk_X8_140 (wX8_in a2 (0 : Int32) (99 : Int32) hT S1 rfl) jk_r0 rfl rfl (so_le rfl) (so_le rfl) dX8_tuner_20 ?_
        refine jr_if_eq (tgt := 35) dX8_tuner_23 rfl (fun c38 => ?_) (fun c38 => ?_)
        · have hf := so_t c38 hf
          refine jr_sub [1, 2, 3] rfl ?_
          exact hJ36 () hf
        · have hf := so_f c38 hf
          refine jr_iload_n dX8_tuner_26 rfl rfl ?_
          refine jr_iconst dX8_tuner_27 ic_0 ?_
          refine jr_iconst dX8_tuner_28 ic_2 ?_
          refine jr_call (st := [.ref (tm_a 0)]) lk_X8_140 (wX8_in a3 (0 : Int32) (2 : Int32) hT S1 rfl) jk_r0 rfl rfl (so_le rfl) (so_le rfl) dX8_tuner_29 ?_
          refine jr_if_ne (tgt := 39) dX8_tuner_32 rfl (fun c39 => ?_) (fun c39 => ?_)
          · have hf := so_f c39 hf
            refine jr_iconst dX8_tuner_39 ic_0 ?_
            refine jr_sub [1, 2, 3] rfl ?_
            exact hJ3 (0 : Int32) hf
          · have hf := so_t c39 hf
            refine jr_sub [1, 2, 3] rfl ?_
            exact hJ36 () hf
