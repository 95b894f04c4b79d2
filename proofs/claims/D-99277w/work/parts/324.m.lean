/-! printed: functions and walks -/
set_option maxRecDepth 100000
set_option linter.unusedVariables false
/- X8_putsFrom -/
abbrev kX8_putsFrom (d0 : Nat) : jx_K := (cX8_putsFrom, 6, RX8, d0 + 3, (Option.none : Option Jvm.ClassFile.FieldType), "putsFrom", [])
def LX8_putsFrom_81 (rec : Int32 → Int32 → tm_S → Option tm_S) (f1 : Int32) (f2 : Int32) (f3 : Int32) (k133 : Int32 → tm_S → Option tm_S) : Nat → Int32 → Int32 → tm_S → Option tm_S
  | 0, _, _, _ => none
  | n + 1, v9, v10, S11 =>
    if f1 ≤ v10 then
    (k133 v9 S11)
    else
    (if v9 = (0 : Int32) then
    (k133 v9 S11)
    else
    (so_gd (so_in ((80 : Int32) + v10) 100) fun _ =>
    so_j (κ := Int32 → Option tm_S) (ρ := Option tm_S) (fun (v15 : Int32) =>
    LX8_putsFrom_81 rec f1 f2 f3 k133 n v15 (v10 + (1 : Int32)) S11)
    (fun J16 =>
    so_j (κ := Unit → Option tm_S) (ρ := Option tm_S) (fun (_u : Unit) =>
    J16 (0 : Int32))
    (fun J17 =>
    if (S11 469 ((80 : Int32) + v10).toNatClampNeg) = f3 then
    (J17 ())
    else
    ((fX8_isFight 469 f1 v10 S11).bind fun r20 =>
    if r20 = (0 : Int32) then
    (J16 (1 : Int32))
    else
    (J17 ()))))))
set_option maxHeartbeats 4000000 in
set_option maxRecDepth 100000 in
theorem wX8_putsFrom_81 {d0 : Nat} {sg' : tm_S} {S0 : so_St} {sg0 : tm_S}  {rec : Int32 → Int32 → tm_S → Option tm_S} (hrec : ∀ (a1 : Int32) (a2 : Int32), ∀ {S0 : so_St} (hT : tm_Sh S0) (sg : tm_S), ∀ {sg' : tm_S}, rec a1 a2 sg = some sg' → jx_Sp d0 yX8_putsFrom (ws_ yX8_putsFrom cX8_putsFrom 6 (Option.none : Option Jvm.ClassFile.FieldType)) [.ref (tm_a 0), .int a1, .int a2] (tm_j S0 sg) (.inl none) (tm_j S0 sg')) (f1 : Int32) (f2 : Int32) (f3 : Int32) (hT : tm_Sh S0)   (k133 : Int32 → tm_S → Option tm_S) (h133 : ∀ (v22 : Int32) (S23 : tm_S), k133 v22 S23 = some sg' → jg_ (tm_j S0 sg0, tm_j S0 sg', .inl none) (kX8_putsFrom d0) 133 [(0, .ref (tm_a 0)), (1, .int f1), (2, .int f2), (3, .int f3), (4, .int v22)] [] (tm_j S0 S23)) : ∀ (n : Nat) (v9 : Int32) (v10 : Int32) (S11 : tm_S), LX8_putsFrom_81 rec f1 f2 f3 k133 n v9 v10 S11 = some sg' → jg_ (tm_j S0 sg0, tm_j S0 sg', .inl none) (kX8_putsFrom d0) 81 [(0, .ref (tm_a 0)), (1, .int f1), (2, .int f2), (3, .int f3), (4, .int v9), (5, .int v10)] [] (tm_j S0 S11) := by
  intro n
  induction n with
  | zero =>
    intro v9 v10 S11 hf
    exact so_no hf
  | succ n ih =>
    intro v9 v10 S11 hf
    rw [LX8_putsFrom_81] at hf
    refine jr_iload dX8_putsFrom_81 rfl ?_
    refine jr_iload_n dX8_putsFrom_83 rfl rfl ?_
    refine jr_icmp_ge (tgt := 133) dX8_putsFrom_84 rfl (fun c12 => ?_) (fun c12 => ?_)
    · have hf := so_t c12 hf
      refine jr_sub [0, 1, 2, 3, 4] rfl ?_
      exact h133 v9 S11 hf
    · have hf := so_f c12 hf
      refine jr_iload dX8_putsFrom_87 rfl ?_
      refine jr_if_eq (tgt := 133) dX8_putsFrom_89 rfl (fun c13 => ?_) (fun c13 => ?_)
      · have hf := so_t c13 hf
        refine jr_sub [0, 1, 2, 3, 4] rfl ?_
        exact h133 v9 S11 hf
      · have hf := so_f c13 hf
        refine jr_aload_n dX8_putsFrom_92 rfl rfl jv_rr ?_
        refine tr_getR (c := 469) hT (List.mem_of_getElem? (i := 20) rfl) fl_X8_76_23 dX8_putsFrom_93 ?_
        refine jr_bipush dX8_putsFrom_96 bp_80 ?_
        refine jr_iload dX8_putsFrom_98 rfl ?_
        refine jr_iadd dX8_putsFrom_100 ?_
        obtain ⟨g14, hf⟩ := so_gdE hf
        refine tr_iaload hT (show tm_k 469 = 50 from rfl) rfl (so_inE g14) dX8_putsFrom_101 ?_
        refine jr_iload_n dX8_putsFrom_102 rfl rfl ?_
        refine so_jE hf (fun J => ∀ (v15 : Int32), J v15 = some sg' → jg_ (tm_j S0 sg0, tm_j S0 sg', .inl none) (kX8_putsFrom d0) 125 [(0, .ref (tm_a 0)), (1, .int f1), (2, .int f2), (3, .int f3), (5, .int v10)] [.int v15] (tm_j S0 S11)) (fun v15 hf => ?_) (fun J16 hJ16 hf => ?_)
        · refine jr_istore (lv' := [(0, .ref (tm_a 0)), (1, .int f1), (2, .int f2), (3, .int f3), (4, .int v15), (5, .int v10)]) dX8_putsFrom_125 (so_le rfl) rfl ?_
          refine jr_iinc (v := v10 + (1 : Int32)) (lv' := [(0, .ref (tm_a 0)), (1, .int f1), (2, .int f2), (3, .int f3), (4, .int v15), (5, .int (v10 + (1 : Int32)))]) dX8_putsFrom_127 rfl rfl (so_le rfl) rfl ?_
          refine jr_goto (tgt := 81) dX8_putsFrom_130 rfl ?_
          exact ih v15 (v10 + (1 : Int32)) S11 hf
        · refine so_jE hf (fun J => ∀ (u0 : Unit), J u0 = some sg' → jg_ (tm_j S0 sg0, tm_j S0 sg', .inl none) (kX8_putsFrom d0) 124 [(0, .ref (tm_a 0)), (1, .int f1), (2, .int f2), (3, .int f3), (5, .int v10)] [] (tm_j S0 S11)) (fun _u hf => ?_) (fun J17 hJ17 hf => ?_)
          · refine jr_iconst dX8_putsFrom_124 ic_0 ?_
            exact hJ16 (0 : Int32) hf
          · refine jr_icmp_eq (tgt := 124) dX8_putsFrom_103 rfl (fun c18 => ?_) (fun c18 => ?_)
            · have hf := so_t c18 hf
              refine jr_sub [0, 1, 2, 3, 5] rfl ?_
              exact hJ17 () hf
            · have hf := so_f c18 hf
              refine jr_aload_n dX8_putsFrom_106 rfl rfl jv_rr ?_
              refine jr_aload_n dX8_putsFrom_107 rfl rfl jv_rr ?_
              refine tr_getR (c := 469) hT (List.mem_of_getElem? (i := 20) rfl) fl_X8_76_23 dX8_putsFrom_108 ?_
              refine jr_iload_n dX8_putsFrom_111 rfl rfl ?_
              refine jr_iload dX8_putsFrom_112 rfl ?_
              obtain ⟨r20, h19, hf⟩ := so_b hf
              refine jr_callM (st := []) lk_X8_290_23 (wX8_isFight 469 f1 v10 hT S11 (show tm_k 469 = 50 from rfl) h19) tm_k23 rfl rfl rfl (so_le rfl) (show 2 + 1 ≤ d0 + 3 by omega) dX8_putsFrom_114 ?_
              refine jr_if_ne (tgt := 124) dX8_putsFrom_117 rfl (fun c21 => ?_) (fun c21 => ?_)
              · have hf := so_f c21 hf
                refine jr_sub [0, 1, 2, 3, 5] rfl ?_
                exact hJ17 () hf
              · have hf := so_t c21 hf
                refine jr_iconst dX8_putsFrom_120 ic_1 ?_
                refine jr_goto (tgt := 125) dX8_putsFrom_121 rfl ?_
                refine jr_sub [0, 1, 2, 3, 5] rfl ?_
                exact hJ16 (1 : Int32) hf
def LX8_putsFrom_55 (rec : Int32 → Int32 → tm_S → Option tm_S) (f1 : Int32) (f2 : Int32) (k175 : tm_S → Option tm_S) : Nat → Int32 → tm_S → Option tm_S
  | 0, _, _ => none
  | n + 1, v3, S4 =>
    so_gd (so_in (0 : Int32) 4) fun _ =>
    if (S4 4 (0 : Int32).toNatClampNeg) ≤ v3 then
    (k175 S4)
    else
    (so_gd (so_in ((80 : Int32) + f1) 100) fun _ =>
    tm_let (tm_up S4 469 ((80 : Int32) + f1).toNatClampNeg v3) fun S8 =>
    LX8_putsFrom_81 rec f1 f2 v3 (fun (v24 : Int32) (S25 : tm_S) =>
    so_j (κ := tm_S → Option tm_S) (ρ := Option tm_S) (fun (S26 : tm_S) =>
    LX8_putsFrom_55 rec f1 f2 k175 n (v3 + (1 : Int32)) S26)
    (fun J27 =>
    if v24 = (0 : Int32) then
    (J27 S25)
    else
    (so_gd (so_in v3 8) fun _ =>
    so_gd (so_in f1 6) fun _ =>
    so_gd (so_in (0 : Int32) 2) fun _ =>
    so_j (κ := Int32 → Option tm_S) (ρ := Option tm_S) (fun (v32 : Int32) =>
    (rec (f1 + (1 : Int32)) (f2 + v32) S25).bind fun S36 =>
    J27 S36)
    (fun J33 =>
    if (S25 8 v3.toNatClampNeg) = (S25 (43 + f1.toNatClampNeg) (0 : Int32).toNatClampNeg) then
    (J33 (1 : Int32))
    else
    (J33 (0 : Int32)))))) so_N (1 : Int32) (0 : Int32) S8)
set_option maxHeartbeats 4000000 in
set_option maxRecDepth 100000 in
theorem wX8_putsFrom_55 {d0 : Nat} {sg' : tm_S} {S0 : so_St} {sg0 : tm_S}  {rec : Int32 → Int32 → tm_S → Option tm_S} (hrec : ∀ (a1 : Int32) (a2 : Int32), ∀ {S0 : so_St} (hT : tm_Sh S0) (sg : tm_S), ∀ {sg' : tm_S}, rec a1 a2 sg = some sg' → jx_Sp d0 yX8_putsFrom (ws_ yX8_putsFrom cX8_putsFrom 6 (Option.none : Option Jvm.ClassFile.FieldType)) [.ref (tm_a 0), .int a1, .int a2] (tm_j S0 sg) (.inl none) (tm_j S0 sg')) (f1 : Int32) (f2 : Int32) (hT : tm_Sh S0)   (k175 : tm_S → Option tm_S) (h175 : ∀ (S38 : tm_S), k175 S38 = some sg' → jg_ (tm_j S0 sg0, tm_j S0 sg', .inl none) (kX8_putsFrom d0) 175 [(0, .ref (tm_a 0)), (1, .int f1)] [] (tm_j S0 S38)) : ∀ (n : Nat) (v3 : Int32) (S4 : tm_S), LX8_putsFrom_55 rec f1 f2 k175 n v3 S4 = some sg' → jg_ (tm_j S0 sg0, tm_j S0 sg', .inl none) (kX8_putsFrom d0) 55 [(0, .ref (tm_a 0)), (1, .int f1), (2, .int f2), (3, .int v3)] [] (tm_j S0 S4) := by
  intro n
  induction n with
  | zero =>
    intro v3 S4 hf
    exact so_no hf
  | succ n ih =>
    intro v3 S4 hf
    rw [LX8_putsFrom_55] at hf
    refine jr_iload_n dX8_putsFrom_55 rfl rfl ?_
    refine jr_aload_n dX8_putsFrom_56 rfl rfl jv_rr ?_
    refine tr_getR (c := 4) hT (List.mem_of_getElem? (i := 3) rfl) fl_X8_23_23 dX8_putsFrom_57 ?_
    refine jr_iconst dX8_putsFrom_60 ic_0 ?_
    obtain ⟨g5, hf⟩ := so_gdE hf
    refine tr_iaload hT (show tm_k 4 = 50 from rfl) rfl (so_inE g5) dX8_putsFrom_61 ?_
    refine jr_icmp_ge (tgt := 175) dX8_putsFrom_62 rfl (fun c6 => ?_) (fun c6 => ?_)
    · have hf := so_t c6 hf
      refine jr_sub [0, 1] rfl ?_
      exact h175 S4 hf
    · have hf := so_f c6 hf
      refine jr_iconst dX8_putsFrom_65 ic_1 ?_
      refine jr_istore (lv' := [(0, .ref (tm_a 0)), (1, .int f1), (2, .int f2), (3, .int v3), (4, .int (1 : Int32))]) dX8_putsFrom_66 (so_le rfl) rfl ?_
      refine jr_aload_n dX8_putsFrom_68 rfl rfl jv_rr ?_
      refine tr_getR (c := 469) hT (List.mem_of_getElem? (i := 20) rfl) fl_X8_76_23 dX8_putsFrom_69 ?_
      refine jr_bipush dX8_putsFrom_72 bp_80 ?_
      refine jr_iload_n dX8_putsFrom_74 rfl rfl ?_
      refine jr_iadd dX8_putsFrom_75 ?_
      refine jr_iload_n dX8_putsFrom_76 rfl rfl ?_
      obtain ⟨g7, hf⟩ := so_gdE hf
      refine tr_iastore hT (show tm_k 469 = 50 from rfl) rfl (so_inE g7) dX8_putsFrom_77 ?_
      refine tm_let_e hf (fun S8 hf => ?_)
      refine jr_iconst dX8_putsFrom_78 ic_0 ?_
      refine jr_istore (lv' := [(0, .ref (tm_a 0)), (1, .int f1), (2, .int f2), (3, .int v3), (4, .int (1 : Int32)), (5, .int (0 : Int32))]) dX8_putsFrom_79 (so_le rfl) rfl ?_
      refine wX8_putsFrom_81 hrec f1 f2 v3 hT _ (fun v24 S25 hf => ?_) so_N (1 : Int32) (0 : Int32) S8 hf
      refine jr_iload dX8_putsFrom_133 rfl ?_
      refine so_jE hf (fun J => ∀ (S26 : tm_S), J S26 = some sg' → jg_ (tm_j S0 sg0, tm_j S0 sg', .inl none) (kX8_putsFrom d0) 169 [(0, .ref (tm_a 0)), (1, .int f1), (2, .int f2), (3, .int v3)] [] (tm_j S0 S26)) (fun S26 hf => ?_) (fun J27 hJ27 hf => ?_)
      · refine jr_iinc (v := v3 + (1 : Int32)) (lv' := [(0, .ref (tm_a 0)), (1, .int f1), (2, .int f2), (3, .int (v3 + (1 : Int32)))]) dX8_putsFrom_169 rfl rfl (so_le rfl) rfl ?_
        refine jr_goto (tgt := 55) dX8_putsFrom_172 rfl ?_
        exact ih (v3 + (1 : Int32)) S26 hf
      · refine jr_if_eq (tgt := 169) dX8_putsFrom_135 rfl (fun c28 => ?_) (fun c28 => ?_)
        · have hf := so_t c28 hf
          refine jr_sub [0, 1, 2, 3] rfl ?_
          exact hJ27 S25 hf
        · have hf := so_f c28 hf
          refine jr_aload_n dX8_putsFrom_138 rfl rfl jv_rr ?_
          refine jr_iload_n dX8_putsFrom_139 rfl rfl ?_
          refine jr_iconst dX8_putsFrom_140 ic_1 ?_
          refine jr_iadd dX8_putsFrom_141 ?_
          refine jr_iload_n dX8_putsFrom_142 rfl rfl ?_
          refine jr_aload_n dX8_putsFrom_143 rfl rfl jv_rr ?_
          refine tr_getR (c := 8) hT (List.mem_of_getElem? (i := 7) rfl) fl_X8_35_23 dX8_putsFrom_144 ?_
          refine jr_iload_n dX8_putsFrom_147 rfl rfl ?_
          obtain ⟨g29, hf⟩ := so_gdE hf
          refine tr_iaload hT (show tm_k 8 = 50 from rfl) rfl (so_inE g29) dX8_putsFrom_148 ?_
          refine jr_aload_n dX8_putsFrom_149 rfl rfl jv_rr ?_
          refine tr_getR (c := 42) hT (List.mem_of_getElem? (i := 11) rfl) fl_X8_49_23 dX8_putsFrom_150 ?_
          refine jr_iload_n dX8_putsFrom_153 rfl rfl ?_
          obtain ⟨g30, hf⟩ := so_gdE hf
          refine tr_aaload (g' := 43) hT (show tm_k 42 = 56 from rfl) rfl rfl (so_inE g30) dX8_putsFrom_154 ?_
          refine jr_iconst dX8_putsFrom_155 ic_0 ?_
          obtain ⟨g31, hf⟩ := so_gdE hf
          refine tr_iaload hT (tm_rk_42 (so_inE g30)) (tm_rl_42 (so_inE g30)) (so_inE g31) dX8_putsFrom_156 ?_
          refine so_jE hf (fun J => ∀ (v32 : Int32), J v32 = some sg' → jg_ (tm_j S0 sg0, tm_j S0 sg', .inl none) (kX8_putsFrom d0) 165 [(0, .ref (tm_a 0)), (1, .int f1), (2, .int f2), (3, .int v3)] [.int v32, .int f2, .int (f1 + (1 : Int32)), .ref (tm_a 0)] (tm_j S0 S25)) (fun v32 hf => ?_) (fun J33 hJ33 hf => ?_)
          · refine jr_iadd dX8_putsFrom_165 ?_
            obtain ⟨S36, h34, hf⟩ := so_b hf
            refine jr_callM (st := []) lk_X8_351_23 (hrec (f1 + (1 : Int32)) (f2 + v32) hT S25 h34) tm_k23 rfl rfl rfl (so_le rfl) (show d0 + 0 + 1 ≤ d0 + 3 by omega) dX8_putsFrom_166 ?_
            exact hJ27 S36 hf
          · refine jr_icmp_ne (tgt := 164) dX8_putsFrom_157 rfl (fun c37 => ?_) (fun c37 => ?_)
            · have hf := so_f c37 hf
              refine jr_iconst dX8_putsFrom_164 ic_0 ?_
              refine jr_sub [0, 1, 2, 3] rfl ?_
              exact hJ33 (0 : Int32) hf
            · have hf := so_t c37 hf
              refine jr_iconst dX8_putsFrom_160 ic_1 ?_
              refine jr_goto (tgt := 165) dX8_putsFrom_161 rfl ?_
              refine jr_sub [0, 1, 2, 3] rfl ?_
              exact hJ33 (1 : Int32) hf
def LX8_putsFrom_26 (rec : Int32 → Int32 → tm_S → Option tm_S) (f1 : Int32) : Nat → Int32 → tm_S → Option tm_S
  | 0, _, _ => none
  | n + 1, v44, S45 =>
    if f1 ≤ v44 then
    (some S45)
    else
    (so_gd (so_in ((80 : Int32) + v44) 100) fun _ =>
    so_gd (so_in v44 6) fun _ =>
    tm_let (tm_up S45 492 v44.toNatClampNeg (S45 469 ((80 : Int32) + v44).toNatClampNeg)) fun S49 =>
    LX8_putsFrom_26 rec f1 n (v44 + (1 : Int32)) S49)
set_option maxHeartbeats 4000000 in
set_option maxRecDepth 100000 in
theorem wX8_putsFrom_26 {d0 : Nat} {sg' : tm_S} {S0 : so_St} {sg0 : tm_S}  {rec : Int32 → Int32 → tm_S → Option tm_S} (hrec : ∀ (a1 : Int32) (a2 : Int32), ∀ {S0 : so_St} (hT : tm_Sh S0) (sg : tm_S), ∀ {sg' : tm_S}, rec a1 a2 sg = some sg' → jx_Sp d0 yX8_putsFrom (ws_ yX8_putsFrom cX8_putsFrom 6 (Option.none : Option Jvm.ClassFile.FieldType)) [.ref (tm_a 0), .int a1, .int a2] (tm_j S0 sg) (.inl none) (tm_j S0 sg')) (f1 : Int32) (hT : tm_Sh S0)   : ∀ (n : Nat) (v44 : Int32) (S45 : tm_S), LX8_putsFrom_26 rec f1 n v44 S45 = some sg' → jg_ (tm_j S0 sg0, tm_j S0 sg', .inl none) (kX8_putsFrom d0) 26 [(0, .ref (tm_a 0)), (1, .int f1), (3, .int v44)] [] (tm_j S0 S45) := by
  intro n
  induction n with
  | zero =>
    intro v44 S45 hf
    exact so_no hf
  | succ n ih =>
    intro v44 S45 hf
    rw [LX8_putsFrom_26] at hf
    refine jr_iload_n dX8_putsFrom_26 rfl rfl ?_
    refine jr_iload_n dX8_putsFrom_27 rfl rfl ?_
    refine jr_icmp_ge (tgt := 52) dX8_putsFrom_28 rfl (fun c46 => ?_) (fun c46 => ?_)
    · have hf := so_t c46 hf
      obtain rfl := so_e1 hf
      exact jr_vret rfl dX8_putsFrom_52
    · have hf := so_f c46 hf
      refine jr_aload_n dX8_putsFrom_31 rfl rfl jv_rr ?_
      refine tr_getR (c := 492) hT (List.mem_of_getElem? (i := 24) rfl) fl_X8_88_23 dX8_putsFrom_32 ?_
      refine jr_iload_n dX8_putsFrom_35 rfl rfl ?_
      refine jr_aload_n dX8_putsFrom_36 rfl rfl jv_rr ?_
      refine tr_getR (c := 469) hT (List.mem_of_getElem? (i := 20) rfl) fl_X8_76_23 dX8_putsFrom_37 ?_
      refine jr_bipush dX8_putsFrom_40 bp_80 ?_
      refine jr_iload_n dX8_putsFrom_42 rfl rfl ?_
      refine jr_iadd dX8_putsFrom_43 ?_
      obtain ⟨g47, hf⟩ := so_gdE hf
      refine tr_iaload hT (show tm_k 469 = 50 from rfl) rfl (so_inE g47) dX8_putsFrom_44 ?_
      obtain ⟨g48, hf⟩ := so_gdE hf
      refine tr_iastore hT (show tm_k 492 = 50 from rfl) rfl (so_inE g48) dX8_putsFrom_45 ?_
      refine tm_let_e hf (fun S49 hf => ?_)
      refine jr_iinc (v := v44 + (1 : Int32)) (lv' := [(0, .ref (tm_a 0)), (1, .int f1), (3, .int (v44 + (1 : Int32)))]) dX8_putsFrom_46 rfl rfl (so_le rfl) rfl ?_
      refine jr_goto (tgt := 26) dX8_putsFrom_49 rfl ?_
      exact ih (v44 + (1 : Int32)) S49 hf
def fX8_putsFrom (rec : Int32 → Int32 → tm_S → Option tm_S) (a1 : Int32) (a2 : Int32) (sg : tm_S) : Option tm_S :=
  so_gd (so_in (2 : Int32) 4) fun _ =>
  if a1 = (sg 4 (2 : Int32).toNatClampNeg) then
  (if (sg 0 44) < a2 then
  (tm_let (tm_up sg 0 44 a2) fun S43 =>
  LX8_putsFrom_26 rec a1 so_N (0 : Int32) S43)
  else
  (some sg))
  else
  (LX8_putsFrom_55 rec a1 a2 (fun (S39 : tm_S) =>
  so_gd (so_in ((80 : Int32) + a1) 100) fun _ =>
  tm_let (tm_up S39 469 ((80 : Int32) + a1).toNatClampNeg (-1 : Int32)) fun S41 =>
  some S41) so_N (0 : Int32) sg)
set_option maxHeartbeats 4000000 in
set_option maxRecDepth 100000 in
theorem wX8_putsFrom {d0 : Nat} {sg' : tm_S} {S0 : so_St} {rec : Int32 → Int32 → tm_S → Option tm_S} (hrec : ∀ (a1 : Int32) (a2 : Int32), ∀ {S0 : so_St} (hT : tm_Sh S0) (sg : tm_S), ∀ {sg' : tm_S}, rec a1 a2 sg = some sg' → jx_Sp d0 yX8_putsFrom (ws_ yX8_putsFrom cX8_putsFrom 6 (Option.none : Option Jvm.ClassFile.FieldType)) [.ref (tm_a 0), .int a1, .int a2] (tm_j S0 sg) (.inl none) (tm_j S0 sg')) (a1 : Int32) (a2 : Int32) (hT : tm_Sh S0) (sg : tm_S)  (hf : fX8_putsFrom rec a1 a2 sg = some sg') : jx_Sp (d0 + 3) yX8_putsFrom (ws_ yX8_putsFrom cX8_putsFrom 6 (Option.none : Option Jvm.ClassFile.FieldType)) [.ref (tm_a 0), .int a1, .int a2] (tm_j S0 sg) (.inl none) (tm_j S0 sg') := by
  refine jx_of (plainFor_of_name (by decide)) (so_le rfl) ?_
  show jg_ ((tm_j S0 sg), (tm_j S0 sg'), .inl none) (kX8_putsFrom d0) 0 [(0, .ref (tm_a 0)), (1, .int a1), (2, .int a2)] [] (tm_j S0 sg)
  unfold fX8_putsFrom at hf
  refine jr_iload_n dX8_putsFrom_0 rfl rfl ?_
  refine jr_aload_n dX8_putsFrom_1 rfl rfl jv_rr ?_
  refine tr_getR (c := 4) hT (List.mem_of_getElem? (i := 3) rfl) fl_X8_23_23 dX8_putsFrom_2 ?_
  refine jr_iconst dX8_putsFrom_5 ic_2 ?_
  obtain ⟨g1, hf⟩ := so_gdE hf
  refine tr_iaload hT (show tm_k 4 = 50 from rfl) rfl (so_inE g1) dX8_putsFrom_6 ?_
  refine jr_icmp_ne (tgt := 53) dX8_putsFrom_7 rfl (fun c2 => ?_) (fun c2 => ?_)
  · have hf := so_f c2 hf
    refine jr_iconst dX8_putsFrom_53 ic_0 ?_
    refine jr_istore_n (lv' := [(0, .ref (tm_a 0)), (1, .int a1), (2, .int a2), (3, .int (0 : Int32))]) dX8_putsFrom_54 rfl (so_le rfl) rfl ?_
    refine wX8_putsFrom_55 hrec a1 a2 hT _ (fun S39 hf => ?_) so_N (0 : Int32) sg hf
    refine jr_aload_n dX8_putsFrom_175 rfl rfl jv_rr ?_
    refine tr_getR (c := 469) hT (List.mem_of_getElem? (i := 20) rfl) fl_X8_76_23 dX8_putsFrom_176 ?_
    refine jr_bipush dX8_putsFrom_179 bp_80 ?_
    refine jr_iload_n dX8_putsFrom_181 rfl rfl ?_
    refine jr_iadd dX8_putsFrom_182 ?_
    refine jr_iconst dX8_putsFrom_183 ic_m1 ?_
    obtain ⟨g40, hf⟩ := so_gdE hf
    refine tr_iastore hT (show tm_k 469 = 50 from rfl) rfl (so_inE g40) dX8_putsFrom_184 ?_
    refine tm_let_e hf (fun S41 hf => ?_)
    obtain rfl := so_e1 hf
    exact jr_vret rfl dX8_putsFrom_185
  · have hf := so_t c2 hf
    refine jr_iload_n dX8_putsFrom_10 rfl rfl ?_
    refine jr_aload_n dX8_putsFrom_11 rfl rfl jv_rr ?_
    refine tr_getI fl_X8_348_23 dX8_putsFrom_12 ?_
    refine jr_icmp_gt (tgt := 19) dX8_putsFrom_15 rfl (fun c42 => ?_) (fun c42 => ?_)
    · have hf := so_t c42 hf
      refine jr_aload_n dX8_putsFrom_19 rfl rfl jv_rr ?_
      refine jr_iload_n dX8_putsFrom_20 rfl rfl ?_
      refine tr_putI fp_X8_348_23 dX8_putsFrom_21 ?_
      refine tm_let_e hf (fun S43 hf => ?_)
      refine jr_iconst dX8_putsFrom_24 ic_0 ?_
      refine jr_istore_n (lv' := [(0, .ref (tm_a 0)), (1, .int a1), (2, .int a2), (3, .int (0 : Int32))]) dX8_putsFrom_25 rfl (so_le rfl) rfl ?_
      refine jr_sub [0, 1, 3] rfl ?_
      refine wX8_putsFrom_26 hrec a1 hT so_N (0 : Int32) S43 hf
    · have hf := so_f c42 hf
      obtain rfl := so_e1 hf
      exact jr_vret rfl dX8_putsFrom_18

/- C:X8_putsFrom -/
def fcX8_putsFrom : Nat → Int32 → Int32 → tm_S → Option tm_S
  | 0 => fun _ _ _ => none
  | n + 1 => fX8_putsFrom (fcX8_putsFrom n)
theorem wcX8_putsFrom : ∀ (n : Nat), ∀ (a1 : Int32) (a2 : Int32), ∀ {S0 : so_St} (hT : tm_Sh S0) (sg : tm_S), ∀ {sg' : tm_S}, fcX8_putsFrom n a1 a2 sg = some sg' → jx_Sp (3 * n) yX8_putsFrom (ws_ yX8_putsFrom cX8_putsFrom 6 (Option.none : Option Jvm.ClassFile.FieldType)) [.ref (tm_a 0), .int a1, .int a2] (tm_j S0 sg) (.inl none) (tm_j S0 sg') := by
  intro n
  induction n with
  | zero =>
    intros
    rename_i hf
    exact so_no hf
  | succ n ih =>
    exact fun a1 a2 _ hT sg _ hf => wX8_putsFrom ih a1 a2 hT sg hf


/- X8_placesAll -/
abbrev kX8_placesAll : jx_K := (cX8_placesAll, 2, RX8, 37, (Option.none : Option Jvm.ClassFile.FieldType), "placesAll", [])
def LX8_placesAll_7  (k36 : tm_S → Option tm_S) : Nat → Int32 → tm_S → Option tm_S
  | 0, _, _ => none
  | n + 1, v2, S3 =>
    if (6 : Int32) ≤ v2 then
    (k36 S3)
    else
    (so_gd (so_in ((80 : Int32) + v2) 100) fun _ =>
    tm_let (tm_up S3 469 ((80 : Int32) + v2).toNatClampNeg (-1 : Int32)) fun S6 =>
    so_gd (so_in v2 6) fun _ =>
    tm_let (tm_up S6 492 v2.toNatClampNeg (-1 : Int32)) fun S8 =>
    LX8_placesAll_7 k36 n (v2 + (1 : Int32)) S8)
set_option maxHeartbeats 4000000 in
set_option maxRecDepth 100000 in
theorem wX8_placesAll_7 {sg' : tm_S} {S0 : so_St} {sg0 : tm_S}    (hT : tm_Sh S0)   (k36 : tm_S → Option tm_S) (h36 : ∀ (S9 : tm_S), k36 S9 = some sg' → jg_ (tm_j S0 sg0, tm_j S0 sg', .inl none) kX8_placesAll 36 [(0, .ref (tm_a 0))] [] (tm_j S0 S9)) : ∀ (n : Nat) (v2 : Int32) (S3 : tm_S), LX8_placesAll_7 k36 n v2 S3 = some sg' → jg_ (tm_j S0 sg0, tm_j S0 sg', .inl none) kX8_placesAll 7 [(0, .ref (tm_a 0)), (1, .int v2)] [] (tm_j S0 S3) := by
  intro n
  induction n with
  | zero =>
    intro v2 S3 hf
    exact so_no hf
  | succ n ih =>
    intro v2 S3 hf
    rw [LX8_placesAll_7] at hf
    refine jr_iload_n dX8_placesAll_7 rfl rfl ?_
    refine jr_bipush dX8_placesAll_8 bp_6 ?_
    refine jr_icmp_ge (tgt := 36) dX8_placesAll_10 rfl (fun c4 => ?_) (fun c4 => ?_)
    · have hf := so_t c4 hf
      refine jr_sub [0] rfl ?_
      exact h36 S3 hf
    · have hf := so_f c4 hf
      refine jr_aload_n dX8_placesAll_13 rfl rfl jv_rr ?_
      refine tr_getR (c := 469) hT (List.mem_of_getElem? (i := 20) rfl) fl_X8_76_23 dX8_placesAll_14 ?_
      refine jr_bipush dX8_placesAll_17 bp_80 ?_
      refine jr_iload_n dX8_placesAll_19 rfl rfl ?_
      refine jr_iadd dX8_placesAll_20 ?_
      refine jr_iconst dX8_placesAll_21 ic_m1 ?_
      obtain ⟨g5, hf⟩ := so_gdE hf
      refine tr_iastore hT (show tm_k 469 = 50 from rfl) rfl (so_inE g5) dX8_placesAll_22 ?_
      refine tm_let_e hf (fun S6 hf => ?_)
      refine jr_aload_n dX8_placesAll_23 rfl rfl jv_rr ?_
      refine tr_getR (c := 492) hT (List.mem_of_getElem? (i := 24) rfl) fl_X8_88_23 dX8_placesAll_24 ?_
      refine jr_iload_n dX8_placesAll_27 rfl rfl ?_
      refine jr_iconst dX8_placesAll_28 ic_m1 ?_
      obtain ⟨g7, hf⟩ := so_gdE hf
      refine tr_iastore hT (show tm_k 492 = 50 from rfl) rfl (so_inE g7) dX8_placesAll_29 ?_
      refine tm_let_e hf (fun S8 hf => ?_)
      refine jr_iinc (v := v2 + (1 : Int32)) (lv' := [(0, .ref (tm_a 0)), (1, .int (v2 + (1 : Int32)))]) dX8_placesAll_30 rfl rfl (so_le rfl) rfl ?_
      refine jr_goto (tgt := 7) dX8_placesAll_33 rfl ?_
      exact ih (v2 + (1 : Int32)) S8 hf
def fX8_placesAll  (sg : tm_S) : Option tm_S :=
  tm_let (tm_up sg 0 44 (-1 : Int32)) fun S1 =>
  LX8_placesAll_7 (fun (S10 : tm_S) =>
  (fcX8_putsFrom 12 (0 : Int32) (0 : Int32) S10).bind fun S13 =>
  some S13) so_N (0 : Int32) S1
set_option maxHeartbeats 4000000 in
set_option maxRecDepth 100000 in
theorem wX8_placesAll {sg' : tm_S} {S0 : so_St}   (hT : tm_Sh S0) (sg : tm_S)  (hf : fX8_placesAll sg = some sg') : jx_Sp 37 yX8_placesAll (ws_ yX8_placesAll cX8_placesAll 2 (Option.none : Option Jvm.ClassFile.FieldType)) [.ref (tm_a 0)] (tm_j S0 sg) (.inl none) (tm_j S0 sg') := by
  refine jx_of (plainFor_of_name (by decide)) (so_le rfl) ?_
  show jg_ ((tm_j S0 sg), (tm_j S0 sg'), .inl none) kX8_placesAll 0 [(0, .ref (tm_a 0))] [] (tm_j S0 sg)
  unfold fX8_placesAll at hf
  refine jr_aload_n dX8_placesAll_0 rfl rfl jv_rr ?_
  refine jr_iconst dX8_placesAll_1 ic_m1 ?_
  refine tr_putI fp_X8_348_23 dX8_placesAll_2 ?_
  refine tm_let_e hf (fun S1 hf => ?_)
  refine jr_iconst dX8_placesAll_5 ic_0 ?_
  refine jr_istore_n (lv' := [(0, .ref (tm_a 0)), (1, .int (0 : Int32))]) dX8_placesAll_6 rfl (so_le rfl) rfl ?_
  refine wX8_placesAll_7 hT _ (fun S10 hf => ?_) so_N (0 : Int32) S1 hf
  refine jr_aload_n dX8_placesAll_36 rfl rfl jv_rr ?_
  refine jr_iconst dX8_placesAll_37 ic_0 ?_
  refine jr_iconst dX8_placesAll_38 ic_0 ?_
  obtain ⟨S13, h11, hf⟩ := so_b hf
  refine jr_callM (st := []) lk_X8_351_23 (wcX8_putsFrom 12 (0 : Int32) (0 : Int32) hT S10 h11) tm_k23 rfl rfl rfl (so_le rfl) (so_le rfl) dX8_placesAll_39 ?_
  obtain rfl := so_e1 hf
  exact jr_vret rfl dX8_placesAll_42

/- X8_places -/
abbrev kX8_places : jx_K := (cX8_places, 1, RX8, 38, (Option.some Jvm.ClassFile.FieldType.int), "places", [])
def fX8_places  (sg : tm_S) : Option (Int32 × tm_S) :=
  tm_let (tm_up sg 0 0 (0 : Int32)) fun S1 =>
  (fX8_placesAll S1).bind fun S4 =>
  some ((S4 0 44), S4)
set_option maxHeartbeats 4000000 in
set_option maxRecDepth 100000 in
theorem wX8_places {res : Int32} {sg' : tm_S} {S0 : so_St}   (hT : tm_Sh S0) (sg : tm_S)  (hf : fX8_places sg = some (res, sg')) : jx_Sp 38 yX8_places (ws_ yX8_places cX8_places 1 (Option.some Jvm.ClassFile.FieldType.int)) [.ref (tm_a 0)] (tm_j S0 sg) (.inl (some (.int res))) (tm_j S0 sg') := by
  refine jx_of (plainFor_of_name (by decide)) (so_le rfl) ?_
  show jg_ ((tm_j S0 sg), (tm_j S0 sg'), .inl (some (.int res))) kX8_places 0 [(0, .ref (tm_a 0))] [] (tm_j S0 sg)
  unfold fX8_places at hf
  refine jr_aload_n dX8_places_0 rfl rfl jv_rr ?_
  refine jr_iconst dX8_places_1 ic_0 ?_
  refine tr_putI fp_X8_106_23 dX8_places_2 ?_
  refine tm_let_e hf (fun S1 hf => ?_)
  refine jr_aload_n dX8_places_5 rfl rfl jv_rr ?_
  obtain ⟨S4, h2, hf⟩ := so_b hf
  refine jr_callM (st := []) lk_X8_354_23 (wX8_placesAll hT S1 h2) tm_k23 rfl rfl rfl (so_le rfl) (so_le rfl) dX8_places_6 ?_
  refine jr_aload_n dX8_places_9 rfl rfl jv_rr ?_
  refine tr_getI fl_X8_348_23 dX8_places_10 ?_
  obtain ⟨rfl, rfl⟩ := so_e2 hf
  exact jr_iret rfl rfl dX8_places_13

/- X8_placed -/
abbrev kX8_placed : jx_K := (cX8_placed, 2, RX8, 38, (Option.some Jvm.ClassFile.FieldType.int), "placed", [])
def fX8_placed (a1 : Int32) (sg : tm_S) : Option (Int32 × tm_S) :=
  tm_let (tm_up sg 0 0 (0 : Int32)) fun S1 =>
  (fX8_isPiano a1 S1).bind fun r3 =>
  so_j (κ := Int32 → Option (Int32 × tm_S)) (ρ := Option (Int32 × tm_S)) (fun (v4 : Int32) =>
  tm_b2 (fX8_bad v4 (1 : Int32) (0 : Int32) S1) fun r7 S8 =>
  if r7 = (0 : Int32) then
  ((fX8_placesAll S8).bind fun S12 =>
  so_gd (so_in a1 6) fun _ =>
  some ((S12 492 a1.toNatClampNeg), S12))
  else
  (some ((0 : Int32), S8)))
  (fun J5 =>
  if r3 = (0 : Int32) then
  (J5 (1 : Int32))
  else
  (J5 (0 : Int32)))
set_option maxHeartbeats 4000000 in
set_option maxRecDepth 100000 in
theorem wX8_placed {res : Int32} {sg' : tm_S} {S0 : so_St}  (a1 : Int32) (hT : tm_Sh S0) (sg : tm_S)  (hf : fX8_placed a1 sg = some (res, sg')) : jx_Sp 38 yX8_placed (ws_ yX8_placed cX8_placed 2 (Option.some Jvm.ClassFile.FieldType.int)) [.ref (tm_a 0), .int a1] (tm_j S0 sg) (.inl (some (.int res))) (tm_j S0 sg') := by
  refine jx_of (plainFor_of_name (by decide)) (so_le rfl) ?_
  show jg_ ((tm_j S0 sg), (tm_j S0 sg'), .inl (some (.int res))) kX8_placed 0 [(0, .ref (tm_a 0)), (1, .int a1)] [] (tm_j S0 sg)
  unfold fX8_placed at hf
  refine jr_aload_n dX8_placed_0 rfl rfl jv_rr ?_
  refine jr_iconst dX8_placed_1 ic_0 ?_
  refine tr_putI fp_X8_106_23 dX8_placed_2 ?_
  refine tm_let_e hf (fun S1 hf => ?_)
  refine jr_aload_n dX8_placed_5 rfl rfl jv_rr ?_
  refine jr_aload_n dX8_placed_6 rfl rfl jv_rr ?_
  refine jr_iload_n dX8_placed_7 rfl rfl ?_
  obtain ⟨r3, h2, hf⟩ := so_b hf
  refine jr_callM (st := [.ref (tm_a 0)]) lk_X8_345_23 (wX8_isPiano a1 hT S1 h2) tm_k23 rfl rfl rfl (so_le rfl) (so_le rfl) dX8_placed_8 ?_
  refine so_jE hf (fun J => ∀ (v4 : Int32), J v4 = some (res, sg') → jg_ (tm_j S0 sg, tm_j S0 sg', .inl (some (.int res))) kX8_placed 19 [(0, .ref (tm_a 0)), (1, .int a1)] [.int v4, .ref (tm_a 0)] (tm_j S0 S1)) (fun v4 hf => ?_) (fun J5 hJ5 hf => ?_)
  · refine jr_iconst dX8_placed_19 ic_1 ?_
    refine jr_iconst dX8_placed_20 ic_0 ?_
    obtain ⟨r7, S8, h6, hf⟩ := tm_b2E hf
    refine jr_callM (st := []) lk_X8_189_23 (wX8_bad v4 (1 : Int32) (0 : Int32) hT S1 h6) tm_k23 rfl rfl rfl (so_le rfl) (so_le rfl) dX8_placed_21 ?_
    refine jr_if_eq (tgt := 29) dX8_placed_24 rfl (fun c9 => ?_) (fun c9 => ?_)
    · have hf := so_t c9 hf
      refine jr_aload_n dX8_placed_29 rfl rfl jv_rr ?_
      obtain ⟨S12, h10, hf⟩ := so_b hf
      refine jr_callM (st := []) lk_X8_354_23 (wX8_placesAll hT S8 h10) tm_k23 rfl rfl rfl (so_le rfl) (so_le rfl) dX8_placed_30 ?_
      refine jr_aload_n dX8_placed_33 rfl rfl jv_rr ?_
      refine tr_getR (c := 492) hT (List.mem_of_getElem? (i := 24) rfl) fl_X8_88_23 dX8_placed_34 ?_
      refine jr_iload_n dX8_placed_37 rfl rfl ?_
      obtain ⟨g13, hf⟩ := so_gdE hf
      refine tr_iaload hT (show tm_k 492 = 50 from rfl) rfl (so_inE g13) dX8_placed_38 ?_
      obtain ⟨rfl, rfl⟩ := so_e2 hf
      exact jr_iret rfl rfl dX8_placed_39
    · have hf := so_f c9 hf
      refine jr_iconst dX8_placed_27 ic_0 ?_
      obtain ⟨rfl, rfl⟩ := so_e2 hf
      exact jr_iret rfl rfl dX8_placed_28
  · refine jr_if_ne (tgt := 18) dX8_placed_11 rfl (fun c14 => ?_) (fun c14 => ?_)
    · have hf := so_f c14 hf
      refine jr_iconst dX8_placed_18 ic_0 ?_
      exact hJ5 (0 : Int32) hf
    · have hf := so_t c14 hf
      refine jr_iconst dX8_placed_14 ic_1 ?_
      refine jr_goto (tgt := 19) dX8_placed_15 rfl ?_
      exact hJ5 (1 : Int32) hf

/- X8_laysHeard -/
abbrev kX8_laysHeard : jx_K := (cX8_laysHeard, 6, RX8, 4, (Option.none : Option Jvm.ClassFile.FieldType), "laysHeard", [])
def LX8_laysHeard_6 (f1 : Int32) (f2 : Int32) : Nat → Int32 → Int32 → tm_S → Option tm_S
  | 0, _, _, _ => none
  | n + 1, v1, v2, S3 =>
    if (60 : Int32) < v2 then
    (some S3)
    else
    (so_gd (so_in v2 61) fun _ =>
    tm_let (tm_up S3 493 v2.toNatClampNeg v1) fun S6 =>
    tm_b2 (fX8_forceBy f2 (0 : Int32) v2 v1 (0 : Int32) (0 : Int32) f1 v2 S6) fun r8 S9 =>
    LX8_laysHeard_6 f1 f2 n (fX8_less (99 : Int32) (v1 + r8)) (v2 + (1 : Int32)) S9)
set_option maxHeartbeats 4000000 in
set_option maxRecDepth 100000 in
theorem wX8_laysHeard_6 {sg' : tm_S} {S0 : so_St} {sg0 : tm_S}   (f1 : Int32) (f2 : Int32) (hT : tm_Sh S0)   : ∀ (n : Nat) (v1 : Int32) (v2 : Int32) (S3 : tm_S), LX8_laysHeard_6 f1 f2 n v1 v2 S3 = some sg' → jg_ (tm_j S0 sg0, tm_j S0 sg', .inl none) kX8_laysHeard 6 [(0, .ref (tm_a 0)), (1, .int f1), (2, .int f2), (4, .int v1), (5, .int v2)] [] (tm_j S0 S3) := by
  intro n
  induction n with
  | zero =>
    intro v1 v2 S3 hf
    exact so_no hf
  | succ n ih =>
    intro v1 v2 S3 hf
    rw [LX8_laysHeard_6] at hf
    refine jr_iload dX8_laysHeard_6 rfl ?_
    refine jr_bipush dX8_laysHeard_8 bp_60 ?_
    refine jr_icmp_gt (tgt := 53) dX8_laysHeard_10 rfl (fun c4 => ?_) (fun c4 => ?_)
    · have hf := so_t c4 hf
      obtain rfl := so_e1 hf
      exact jr_vret rfl dX8_laysHeard_53
    · have hf := so_f c4 hf
      refine jr_aload_n dX8_laysHeard_13 rfl rfl jv_rr ?_
      refine tr_getR (c := 493) hT (List.mem_of_getElem? (i := 25) rfl) fl_X8_91_23 dX8_laysHeard_14 ?_
      refine jr_iload dX8_laysHeard_17 rfl ?_
      refine jr_iload dX8_laysHeard_19 rfl ?_
      obtain ⟨g5, hf⟩ := so_gdE hf
      refine tr_iastore hT (show tm_k 493 = 50 from rfl) rfl (so_inE g5) dX8_laysHeard_21 ?_
      refine tm_let_e hf (fun S6 hf => ?_)
      refine jr_bipush dX8_laysHeard_22 bp_99 ?_
      refine jr_iload dX8_laysHeard_24 rfl ?_
      refine jr_aload_n dX8_laysHeard_26 rfl rfl jv_rr ?_
      refine jr_iload_n dX8_laysHeard_27 rfl rfl ?_
      refine jr_iconst dX8_laysHeard_28 ic_0 ?_
      refine jr_iload dX8_laysHeard_29 rfl ?_
      refine jr_iload dX8_laysHeard_31 rfl ?_
      refine jr_iconst dX8_laysHeard_33 ic_0 ?_
      refine jr_iconst dX8_laysHeard_34 ic_0 ?_
      refine jr_iload_n dX8_laysHeard_35 rfl rfl ?_
      refine jr_iload dX8_laysHeard_36 rfl ?_
      obtain ⟨r8, S9, h7, hf⟩ := tm_b2E hf
      refine jr_callM (st := [.int v1, .int (99 : Int32)]) lk_X8_278_23 (wX8_forceBy f2 (0 : Int32) v2 v1 (0 : Int32) (0 : Int32) f1 v2 hT S6 h7) tm_k23 rfl rfl rfl (so_le rfl) (so_le rfl) dX8_laysHeard_38 ?_
      refine jr_iadd dX8_laysHeard_41 ?_
      refine jr_call (st := []) lk_X8_249 (wX8_less (99 : Int32) (v1 + r8) hT S9 rfl) jk_r0 rfl rfl (so_le rfl) (so_le rfl) dX8_laysHeard_42 ?_
      refine jr_istore (lv' := [(0, .ref (tm_a 0)), (1, .int f1), (2, .int f2), (4, .int (fX8_less (99 : Int32) (v1 + r8))), (5, .int v2)]) dX8_laysHeard_45 (so_le rfl) rfl ?_
      refine jr_iinc (v := v2 + (1 : Int32)) (lv' := [(0, .ref (tm_a 0)), (1, .int f1), (2, .int f2), (4, .int (fX8_less (99 : Int32) (v1 + r8))), (5, .int (v2 + (1 : Int32)))]) dX8_laysHeard_47 rfl rfl (so_le rfl) rfl ?_
      refine jr_goto (tgt := 6) dX8_laysHeard_50 rfl ?_
      exact ih (fX8_less (99 : Int32) (v1 + r8)) (v2 + (1 : Int32)) S9 hf
def fX8_laysHeard (a1 : Int32) (a2 : Int32) (a3 : Int32) (sg : tm_S) : Option tm_S :=
  LX8_laysHeard_6 a1 a2 so_N a3 (0 : Int32) sg
set_option maxHeartbeats 4000000 in
set_option maxRecDepth 100000 in
theorem wX8_laysHeard {sg' : tm_S} {S0 : so_St}  (a1 : Int32) (a2 : Int32) (a3 : Int32) (hT : tm_Sh S0) (sg : tm_S)  (hf : fX8_laysHeard a1 a2 a3 sg = some sg') : jx_Sp 4 yX8_laysHeard (ws_ yX8_laysHeard cX8_laysHeard 6 (Option.none : Option Jvm.ClassFile.FieldType)) [.ref (tm_a 0), .int a1, .int a2, .int a3] (tm_j S0 sg) (.inl none) (tm_j S0 sg') := by
  refine jx_of (plainFor_of_name (by decide)) (so_le rfl) ?_
  show jg_ ((tm_j S0 sg), (tm_j S0 sg'), .inl none) kX8_laysHeard 0 [(0, .ref (tm_a 0)), (1, .int a1), (2, .int a2), (3, .int a3)] [] (tm_j S0 sg)
  unfold fX8_laysHeard at hf
  refine jr_iload_n dX8_laysHeard_0 rfl rfl ?_
  refine jr_istore (lv' := [(0, .ref (tm_a 0)), (1, .int a1), (2, .int a2), (3, .int a3), (4, .int a3)]) dX8_laysHeard_1 (so_le rfl) rfl ?_
  refine jr_iconst dX8_laysHeard_3 ic_0 ?_
  refine jr_istore (lv' := [(0, .ref (tm_a 0)), (1, .int a1), (2, .int a2), (3, .int a3), (4, .int a3), (5, .int (0 : Int32))]) dX8_laysHeard_4 (so_le rfl) rfl ?_
  refine jr_sub [0, 1, 2, 4, 5] rfl ?_
  refine wX8_laysHeard_6 a1 a2 hT so_N a3 (0 : Int32) sg hf

/- X8_isHeard -/
abbrev kX8_isHeard : jx_K := (cX8_isHeard, 2, RX8, 0, (Option.some Jvm.ClassFile.FieldType.boolean), "isHeard", [])
def LX8_isHeard_2  (sg : tm_S) : Nat → Int32 → Option Int32
  | 0, _ => none
  | n + 1, v1 =>
    if (sg 0 36) ≤ v1 then
    (some (1 : Int32))
    else
    (so_gd (so_in v1 6) fun _ =>
    so_gd (so_in (0 : Int32) 2) fun _ =>
    so_gd (so_in (sg (372 + v1.toNatClampNeg) (0 : Int32).toNatClampNeg) 61) fun _ =>
    so_gd (so_in v1 6) fun _ =>
    so_gd (so_in (1 : Int32) 2) fun _ =>
    if (sg 493 (sg (372 + v1.toNatClampNeg) (0 : Int32).toNatClampNeg).toNatClampNeg) = (sg (372 + v1.toNatClampNeg) (1 : Int32).toNatClampNeg) then
    (LX8_isHeard_2 sg n (v1 + (1 : Int32)))
    else
    (some (0 : Int32)))
set_option maxHeartbeats 4000000 in
set_option maxRecDepth 100000 in
theorem wX8_isHeard_2 {res : Int32} {S0 : so_St}    (hT : tm_Sh S0) (sg : tm_S)  : ∀ (n : Nat) (v1 : Int32), LX8_isHeard_2 sg n v1 = some res → jg_ (tm_j S0 sg, tm_j S0 sg, .inl (some (.int res))) kX8_isHeard 2 [(0, .ref (tm_a 0)), (1, .int v1)] [] (tm_j S0 sg) := by
  intro n
  induction n with
  | zero =>
    intro v1 hf
    exact so_no hf
  | succ n ih =>
    intro v1 hf
    rw [LX8_isHeard_2] at hf
    refine jr_iload_n dX8_isHeard_2 rfl rfl ?_
    refine jr_aload_n dX8_isHeard_3 rfl rfl jv_rr ?_
    refine tr_getI fl_X8_209_23 dX8_isHeard_4 ?_
    refine jr_icmp_ge (tgt := 42) dX8_isHeard_7 rfl (fun c2 => ?_) (fun c2 => ?_)
    · have hf := so_t c2 hf
      refine jr_iconst dX8_isHeard_42 ic_1 ?_
      obtain rfl := so_e1 hf
      exact jr_iret rfl rfl dX8_isHeard_43
    · have hf := so_f c2 hf
      refine jr_aload_n dX8_isHeard_10 rfl rfl jv_rr ?_
      refine tr_getR (c := 493) hT (List.mem_of_getElem? (i := 25) rfl) fl_X8_91_23 dX8_isHeard_11 ?_
      refine jr_aload_n dX8_isHeard_14 rfl rfl jv_rr ?_
      refine tr_getR (c := 371) hT (List.mem_of_getElem? (i := 14) rfl) fl_X8_58_23 dX8_isHeard_15 ?_
      refine jr_iload_n dX8_isHeard_18 rfl rfl ?_
      obtain ⟨g3, hf⟩ := so_gdE hf
      refine tr_aaload (g' := 372) hT (show tm_k 371 = 56 from rfl) rfl rfl (so_inE g3) dX8_isHeard_19 ?_
      refine jr_iconst dX8_isHeard_20 ic_0 ?_
      obtain ⟨g4, hf⟩ := so_gdE hf
      refine tr_iaload hT (tm_rk_371 (so_inE g3)) (tm_rl_371 (so_inE g3)) (so_inE g4) dX8_isHeard_21 ?_
      obtain ⟨g5, hf⟩ := so_gdE hf
      refine tr_iaload hT (show tm_k 493 = 50 from rfl) rfl (so_inE g5) dX8_isHeard_22 ?_
      refine jr_aload_n dX8_isHeard_23 rfl rfl jv_rr ?_
      refine tr_getR (c := 371) hT (List.mem_of_getElem? (i := 14) rfl) fl_X8_58_23 dX8_isHeard_24 ?_
      refine jr_iload_n dX8_isHeard_27 rfl rfl ?_
      obtain ⟨g6, hf⟩ := so_gdE hf
      refine tr_aaload (g' := 372) hT (show tm_k 371 = 56 from rfl) rfl rfl (so_inE g6) dX8_isHeard_28 ?_
      refine jr_iconst dX8_isHeard_29 ic_1 ?_
      obtain ⟨g7, hf⟩ := so_gdE hf
      refine tr_iaload hT (tm_rk_371 (so_inE g6)) (tm_rl_371 (so_inE g6)) (so_inE g7) dX8_isHeard_30 ?_
      refine jr_icmp_eq (tgt := 36) dX8_isHeard_31 rfl (fun c8 => ?_) (fun c8 => ?_)
      · have hf := so_t c8 hf
        refine jr_iinc (v := v1 + (1 : Int32)) (lv' := [(0, .ref (tm_a 0)), (1, .int (v1 + (1 : Int32)))]) dX8_isHeard_36 rfl rfl (so_le rfl) rfl ?_
        refine jr_goto (tgt := 2) dX8_isHeard_39 rfl ?_
        exact ih (v1 + (1 : Int32)) hf
      · have hf := so_f c8 hf
        refine jr_iconst dX8_isHeard_34 ic_0 ?_
        obtain rfl := so_e1 hf
        exact jr_iret rfl rfl dX8_isHeard_35
def fX8_isHeard  (sg : tm_S) : Option Int32 :=
  LX8_isHeard_2 sg so_N (0 : Int32)
set_option maxHeartbeats 4000000 in
set_option maxRecDepth 100000 in
theorem wX8_isHeard {res : Int32} {S0 : so_St}   (hT : tm_Sh S0) (sg : tm_S)  (hf : fX8_isHeard sg = some res) : jx_Sp 0 yX8_isHeard (ws_ yX8_isHeard cX8_isHeard 2 (Option.some Jvm.ClassFile.FieldType.boolean)) [.ref (tm_a 0)] (tm_j S0 sg) (.inl (some (.int res))) (tm_j S0 sg) := by
  refine jx_of (plainFor_of_name (by decide)) (so_le rfl) ?_
  show jg_ ((tm_j S0 sg), (tm_j S0 sg), .inl (some (.int res))) kX8_isHeard 0 [(0, .ref (tm_a 0))] [] (tm_j S0 sg)
  unfold fX8_isHeard at hf
  refine jr_iconst dX8_isHeard_0 ic_0 ?_
  refine jr_istore_n (lv' := [(0, .ref (tm_a 0)), (1, .int (0 : Int32))]) dX8_isHeard_1 rfl (so_le rfl) rfl ?_
  refine wX8_isHeard_2 hT sg so_N (0 : Int32) hf

/- X8_from -/
abbrev kX8_from : jx_K := (cX8_from, 7, RX8, 5, (Option.some Jvm.ClassFile.FieldType.int), "from", [])
def LX8_from_70 (f1 : Int32) (f2 : Int32) (f5 : Int32) (k124 : Int32 → Int32 → tm_S → Option (Int32 × tm_S)) : Nat → Int32 → Int32 → Int32 → tm_S → Option (Int32 × tm_S)
  | 0, _, _, _, _ => none
  | n + 1, v21, v22, v23, S24 =>
    if (99 : Int32) < v23 then
    (k124 v21 v22 S24)
    else
    ((fX8_laysHeard f1 f5 v23 S24).bind fun S28 =>
    (fX8_isHeard S28).bind fun r30 =>
    so_j (κ := Int32 → Int32 → Option (Int32 × tm_S)) (ρ := Option (Int32 × tm_S)) (fun (v31 : Int32) (v32 : Int32) =>
    LX8_from_70 f1 f2 f5 k124 n v31 v32 (v23 + (1 : Int32)) S28)
    (fun J33 =>
    if r30 = (0 : Int32) then
    (J33 v21 v22)
    else
    (so_j (κ := Int32 → Option (Int32 × tm_S)) (ρ := Option (Int32 × tm_S)) (fun (v35 : Int32) =>
    J33 (v21 + (1 : Int32)) v35)
    (fun J36 =>
    if v21 = (0 : Int32) then
    (J36 (((100 : Int32) * f5) + v23))
    else
    (J36 v22)))))
set_option maxHeartbeats 4000000 in
set_option maxRecDepth 100000 in
theorem wX8_from_70 {res : Int32} {sg' : tm_S} {S0 : so_St} {sg0 : tm_S}   (f1 : Int32) (f2 : Int32) (f5 : Int32) (hT : tm_Sh S0)   (k124 : Int32 → Int32 → tm_S → Option (Int32 × tm_S)) (h124 : ∀ (v38 : Int32) (v39 : Int32) (S40 : tm_S), k124 v38 v39 S40 = some (res, sg') → jg_ (tm_j S0 sg0, tm_j S0 sg', .inl (some (.int res))) kX8_from 124 [(0, .ref (tm_a 0)), (1, .int f1), (2, .int f2), (3, .int v38), (4, .int v39), (5, .int f5)] [] (tm_j S0 S40)) : ∀ (n : Nat) (v21 : Int32) (v22 : Int32) (v23 : Int32) (S24 : tm_S), LX8_from_70 f1 f2 f5 k124 n v21 v22 v23 S24 = some (res, sg') → jg_ (tm_j S0 sg0, tm_j S0 sg', .inl (some (.int res))) kX8_from 70 [(0, .ref (tm_a 0)), (1, .int f1), (2, .int f2), (3, .int v21), (4, .int v22), (5, .int f5), (6, .int v23)] [] (tm_j S0 S24) := by
  intro n
  induction n with
  | zero =>
    intro v21 v22 v23 S24 hf
    exact so_no hf
  | succ n ih =>
    intro v21 v22 v23 S24 hf
    rw [LX8_from_70] at hf
    refine jr_iload dX8_from_70 rfl ?_
    refine jr_bipush dX8_from_72 bp_99 ?_
    refine jr_icmp_gt (tgt := 124) dX8_from_74 rfl (fun c25 => ?_) (fun c25 => ?_)
    · have hf := so_t c25 hf
      refine jr_sub [0, 1, 2, 3, 4, 5] rfl ?_
      exact h124 v21 v22 S24 hf
    · have hf := so_f c25 hf
      refine jr_aload_n dX8_from_77 rfl rfl jv_rr ?_
      refine jr_iload_n dX8_from_78 rfl rfl ?_
      refine jr_iload dX8_from_79 rfl ?_
      refine jr_iload dX8_from_81 rfl ?_
      obtain ⟨S28, h26, hf⟩ := so_b hf
      refine jr_callM (st := []) lk_X8_357_23 (wX8_laysHeard f1 f5 v23 hT S24 h26) tm_k23 rfl rfl rfl (so_le rfl) (so_le rfl) dX8_from_83 ?_
      refine jr_aload_n dX8_from_86 rfl rfl jv_rr ?_
      obtain ⟨r30, h29, hf⟩ := so_b hf
      refine jr_callM (st := []) lk_X8_361_23 (wX8_isHeard hT S28 h29) tm_k23 rfl rfl rfl (so_le rfl) (so_le rfl) dX8_from_87 ?_
      refine so_jE hf (fun J => ∀ (v31 : Int32) (v32 : Int32), J v31 v32 = some (res, sg') → jg_ (tm_j S0 sg0, tm_j S0 sg', .inl (some (.int res))) kX8_from 118 [(0, .ref (tm_a 0)), (1, .int f1), (2, .int f2), (3, .int v31), (4, .int v32), (5, .int f5), (6, .int v23)] [] (tm_j S0 S28)) (fun v31 v32 hf => ?_) (fun J33 hJ33 hf => ?_)
      · refine jr_iinc (v := v23 + (1 : Int32)) (lv' := [(0, .ref (tm_a 0)), (1, .int f1), (2, .int f2), (3, .int v31), (4, .int v32), (5, .int f5), (6, .int (v23 + (1 : Int32)))]) dX8_from_118 rfl rfl (so_le rfl) rfl ?_
        refine jr_goto (tgt := 70) dX8_from_121 rfl ?_
        exact ih v31 v32 (v23 + (1 : Int32)) S28 hf
      · refine jr_if_ne (tgt := 96) dX8_from_90 rfl (fun c34 => ?_) (fun c34 => ?_)
        · have hf := so_f c34 hf
          refine jr_iload_n dX8_from_96 rfl rfl ?_
          refine so_jE hf (fun J => ∀ (v35 : Int32), J v35 = some (res, sg') → jg_ (tm_j S0 sg0, tm_j S0 sg', .inl (some (.int res))) kX8_from 113 [(0, .ref (tm_a 0)), (1, .int f1), (2, .int f2), (3, .int v21), (5, .int f5), (6, .int v23)] [.int v35] (tm_j S0 S28)) (fun v35 hf => ?_) (fun J36 hJ36 hf => ?_)
          · refine jr_istore (lv' := [(0, .ref (tm_a 0)), (1, .int f1), (2, .int f2), (3, .int v21), (4, .int v35), (5, .int f5), (6, .int v23)]) dX8_from_113 (so_le rfl) rfl ?_
            refine jr_iinc (v := v21 + (1 : Int32)) (lv' := [(0, .ref (tm_a 0)), (1, .int f1), (2, .int f2), (3, .int (v21 + (1 : Int32))), (4, .int v35), (5, .int f5), (6, .int v23)]) dX8_from_115 rfl rfl (so_le rfl) rfl ?_
            exact hJ33 (v21 + (1 : Int32)) v35 hf
          · refine jr_if_ne (tgt := 111) dX8_from_97 rfl (fun c37 => ?_) (fun c37 => ?_)
            · have hf := so_f c37 hf
              refine jr_iload dX8_from_111 rfl ?_
              refine jr_sub [0, 1, 2, 3, 5, 6] rfl ?_
              exact hJ36 v22 hf
            · have hf := so_t c37 hf
              refine jr_bipush dX8_from_100 bp_100 ?_
              refine jr_iload dX8_from_102 rfl ?_
              refine jr_imul dX8_from_104 ?_
              refine jr_iload dX8_from_105 rfl ?_
              refine jr_iadd dX8_from_107 ?_
              refine jr_goto (tgt := 113) dX8_from_108 rfl ?_
              refine jr_sub [0, 1, 2, 3, 5, 6] rfl ?_
              exact hJ36 (((100 : Int32) * f5) + v23) hf
        · have hf := so_t c34 hf
          refine jr_goto (tgt := 118) dX8_from_93 rfl ?_
          exact hJ33 v21 v22 hf
def LX8_from_60 (f1 : Int32) (f2 : Int32) (k130 : Int32 → Int32 → tm_S → Option (Int32 × tm_S)) : Nat → Int32 → Int32 → Int32 → tm_S → Option (Int32 × tm_S)
  | 0, _, _, _, _ => none
  | n + 1, v16, v17, v18, S19 =>
    if (9 : Int32) < v18 then
    (k130 v16 v17 S19)
    else
    (LX8_from_70 f1 f2 v18 (fun (v41 : Int32) (v42 : Int32) (S43 : tm_S) =>
    LX8_from_60 f1 f2 k130 n v41 v42 (v18 + (1 : Int32)) S43) so_N v16 v17 (0 : Int32) S19)
set_option maxHeartbeats 4000000 in
set_option maxRecDepth 100000 in
theorem wX8_from_60 {res : Int32} {sg' : tm_S} {S0 : so_St} {sg0 : tm_S}   (f1 : Int32) (f2 : Int32) (hT : tm_Sh S0)   (k130 : Int32 → Int32 → tm_S → Option (Int32 × tm_S)) (h130 : ∀ (v44 : Int32) (v45 : Int32) (S46 : tm_S), k130 v44 v45 S46 = some (res, sg') → jg_ (tm_j S0 sg0, tm_j S0 sg', .inl (some (.int res))) kX8_from 130 [(2, .int f2), (3, .int v44), (4, .int v45)] [] (tm_j S0 S46)) : ∀ (n : Nat) (v16 : Int32) (v17 : Int32) (v18 : Int32) (S19 : tm_S), LX8_from_60 f1 f2 k130 n v16 v17 v18 S19 = some (res, sg') → jg_ (tm_j S0 sg0, tm_j S0 sg', .inl (some (.int res))) kX8_from 60 [(0, .ref (tm_a 0)), (1, .int f1), (2, .int f2), (3, .int v16), (4, .int v17), (5, .int v18)] [] (tm_j S0 S19) := by
  intro n
  induction n with
  | zero =>
    intro v16 v17 v18 S19 hf
    exact so_no hf
  | succ n ih =>
    intro v16 v17 v18 S19 hf
    rw [LX8_from_60] at hf
    refine jr_iload dX8_from_60 rfl ?_
    refine jr_bipush dX8_from_62 bp_9 ?_
    refine jr_icmp_gt (tgt := 130) dX8_from_64 rfl (fun c20 => ?_) (fun c20 => ?_)
    · have hf := so_t c20 hf
      refine jr_sub [2, 3, 4] rfl ?_
      exact h130 v16 v17 S19 hf
    · have hf := so_f c20 hf
      refine jr_iconst dX8_from_67 ic_0 ?_
      refine jr_istore (lv' := [(0, .ref (tm_a 0)), (1, .int f1), (2, .int f2), (3, .int v16), (4, .int v17), (5, .int v18), (6, .int (0 : Int32))]) dX8_from_68 (so_le rfl) rfl ?_
      refine wX8_from_70 f1 f2 v18 hT _ (fun v41 v42 S43 hf => ?_) so_N v16 v17 (0 : Int32) S19 hf
      refine jr_iinc (v := v18 + (1 : Int32)) (lv' := [(0, .ref (tm_a 0)), (1, .int f1), (2, .int f2), (3, .int v41), (4, .int v42), (5, .int (v18 + (1 : Int32)))]) dX8_from_124 rfl rfl (so_le rfl) rfl ?_
      refine jr_goto (tgt := 60) dX8_from_127 rfl ?_
      exact ih v41 v42 (v18 + (1 : Int32)) S43 hf
def fX8_from (a1 : Int32) (a2 : Int32) (sg : tm_S) : Option (Int32 × tm_S) :=
  tm_let (tm_up sg 0 0 (0 : Int32)) fun S1 =>
  (fX8_isHouse a1 S1).bind fun r3 =>
  so_j (κ := Int32 → Option (Int32 × tm_S)) (ρ := Option (Int32 × tm_S)) (fun (v4 : Int32) =>
  tm_b2 (fX8_bad v4 (1 : Int32) (0 : Int32) S1) fun r7 S8 =>
  if r7 = (0 : Int32) then
  (so_j (κ := Int32 → Option (Int32 × tm_S)) (ρ := Option (Int32 × tm_S)) (fun (v10 : Int32) =>
  tm_b2 (fX8_bad v10 (2 : Int32) (1 : Int32) S8) fun r13 S14 =>
  if r13 = (0 : Int32) then
  (LX8_from_60 a1 a2 (fun (v47 : Int32) (v48 : Int32) (S49 : tm_S) =>
  if a2 = (0 : Int32) then
  (some (v47, S49))
  else
  (some (v48, S49))) so_N (0 : Int32) (-1 : Int32) (1 : Int32) S14)
  else
  (some ((0 : Int32), S14)))
  (fun J11 =>
  if (fX8_in a2 (0 : Int32) (1 : Int32)) = (0 : Int32) then
  (J11 (1 : Int32))
  else
  (J11 (0 : Int32))))
  else
  (some ((0 : Int32), S8)))
  (fun J5 =>
  if r3 = (0 : Int32) then
  (J5 (1 : Int32))
  else
  (J5 (0 : Int32)))
set_option maxHeartbeats 4000000 in
set_option maxRecDepth 100000 in
theorem wX8_from {res : Int32} {sg' : tm_S} {S0 : so_St}  (a1 : Int32) (a2 : Int32) (hT : tm_Sh S0) (sg : tm_S)  (hf : fX8_from a1 a2 sg = some (res, sg')) : jx_Sp 5 yX8_from (ws_ yX8_from cX8_from 7 (Option.some Jvm.ClassFile.FieldType.int)) [.ref (tm_a 0), .int a1, .int a2] (tm_j S0 sg) (.inl (some (.int res))) (tm_j S0 sg') := by
  refine jx_of (plainFor_of_name (by decide)) (so_le rfl) ?_
  show jg_ ((tm_j S0 sg), (tm_j S0 sg'), .inl (some (.int res))) kX8_from 0 [(0, .ref (tm_a 0)), (1, .int a1), (2, .int a2)] [] (tm_j S0 sg)
  unfold fX8_from at hf
  refine jr_aload_n dX8_from_0 rfl rfl jv_rr ?_
  refine jr_iconst dX8_from_1 ic_0 ?_
  refine tr_putI fp_X8_106_23 dX8_from_2 ?_
  refine tm_let_e hf (fun S1 hf => ?_)
  refine jr_aload_n dX8_from_5 rfl rfl jv_rr ?_
  refine jr_aload_n dX8_from_6 rfl rfl jv_rr ?_
  refine jr_iload_n dX8_from_7 rfl rfl ?_
  obtain ⟨r3, h2, hf⟩ := so_b hf
  refine jr_callM (st := [.ref (tm_a 0)]) lk_X8_339_23 (wX8_isHouse a1 hT S1 h2) tm_k23 rfl rfl rfl (so_le rfl) (so_le rfl) dX8_from_8 ?_
  refine so_jE hf (fun J => ∀ (v4 : Int32), J v4 = some (res, sg') → jg_ (tm_j S0 sg, tm_j S0 sg', .inl (some (.int res))) kX8_from 19 [(0, .ref (tm_a 0)), (1, .int a1), (2, .int a2)] [.int v4, .ref (tm_a 0)] (tm_j S0 S1)) (fun v4 hf => ?_) (fun J5 hJ5 hf => ?_)
  · refine jr_iconst dX8_from_19 ic_1 ?_
    refine jr_iconst dX8_from_20 ic_0 ?_
    obtain ⟨r7, S8, h6, hf⟩ := tm_b2E hf
    refine jr_callM (st := []) lk_X8_189_23 (wX8_bad v4 (1 : Int32) (0 : Int32) hT S1 h6) tm_k23 rfl rfl rfl (so_le rfl) (so_le rfl) dX8_from_21 ?_
    refine jr_if_ne (tgt := 50) dX8_from_24 rfl (fun c9 => ?_) (fun c9 => ?_)
    · have hf := so_f c9 hf
      refine jr_iconst dX8_from_50 ic_0 ?_
      obtain ⟨rfl, rfl⟩ := so_e2 hf
      exact jr_iret rfl rfl dX8_from_51
    · have hf := so_t c9 hf
      refine jr_aload_n dX8_from_27 rfl rfl jv_rr ?_
      refine jr_iload_n dX8_from_28 rfl rfl ?_
      refine jr_iconst dX8_from_29 ic_0 ?_
      refine jr_iconst dX8_from_30 ic_1 ?_
      refine jr_call (st := [.ref (tm_a 0)]) lk_X8_140 (wX8_in a2 (0 : Int32) (1 : Int32) hT S8 rfl) jk_r0 rfl rfl (so_le rfl) (so_le rfl) dX8_from_31 ?_
      refine so_jE hf (fun J => ∀ (v10 : Int32), J v10 = some (res, sg') → jg_ (tm_j S0 sg, tm_j S0 sg', .inl (some (.int res))) kX8_from 42 [(0, .ref (tm_a 0)), (1, .int a1), (2, .int a2)] [.int v10, .ref (tm_a 0)] (tm_j S0 S8)) (fun v10 hf => ?_) (fun J11 hJ11 hf => ?_)
      · refine jr_iconst dX8_from_42 ic_2 ?_
        refine jr_iconst dX8_from_43 ic_1 ?_
        obtain ⟨r13, S14, h12, hf⟩ := tm_b2E hf
        refine jr_callM (st := []) lk_X8_189_23 (wX8_bad v10 (2 : Int32) (1 : Int32) hT S8 h12) tm_k23 rfl rfl rfl (so_le rfl) (so_le rfl) dX8_from_44 ?_
        refine jr_if_eq (tgt := 52) dX8_from_47 rfl (fun c15 => ?_) (fun c15 => ?_)
        · have hf := so_t c15 hf
          refine jr_iconst dX8_from_52 ic_0 ?_
          refine jr_istore_n (lv' := [(0, .ref (tm_a 0)), (1, .int a1), (2, .int a2), (3, .int (0 : Int32))]) dX8_from_53 rfl (so_le rfl) rfl ?_
          refine jr_iconst dX8_from_54 ic_m1 ?_
          refine jr_istore (lv' := [(0, .ref (tm_a 0)), (1, .int a1), (2, .int a2), (3, .int (0 : Int32)), (4, .int (-1 : Int32))]) dX8_from_55 (so_le rfl) rfl ?_
          refine jr_iconst dX8_from_57 ic_1 ?_
          refine jr_istore (lv' := [(0, .ref (tm_a 0)), (1, .int a1), (2, .int a2), (3, .int (0 : Int32)), (4, .int (-1 : Int32)), (5, .int (1 : Int32))]) dX8_from_58 (so_le rfl) rfl ?_
          refine wX8_from_60 a1 a2 hT _ (fun v47 v48 S49 hf => ?_) so_N (0 : Int32) (-1 : Int32) (1 : Int32) S14 hf
          refine jr_iload_n dX8_from_130 rfl rfl ?_
          refine jr_if_ne (tgt := 138) dX8_from_131 rfl (fun c50 => ?_) (fun c50 => ?_)
          · have hf := so_f c50 hf
            refine jr_iload dX8_from_138 rfl ?_
            obtain ⟨rfl, rfl⟩ := so_e2 hf
            exact jr_iret rfl rfl dX8_from_140
          · have hf := so_t c50 hf
            refine jr_iload_n dX8_from_134 rfl rfl ?_
            refine jr_goto (tgt := 140) dX8_from_135 rfl ?_
            obtain ⟨rfl, rfl⟩ := so_e2 hf
            exact jr_iret rfl rfl dX8_from_140
        · have hf := so_f c15 hf
          refine jr_iconst dX8_from_50 ic_0 ?_
          obtain ⟨rfl, rfl⟩ := so_e2 hf
          exact jr_iret rfl rfl dX8_from_51
      · refine jr_if_ne (tgt := 41) dX8_from_34 rfl (fun c51 => ?_) (fun c51 => ?_)
        · have hf := so_f c51 hf
          refine jr_iconst dX8_from_41 ic_0 ?_
          exact hJ11 (0 : Int32) hf
        · have hf := so_t c51 hf
          refine jr_iconst dX8_from_37 ic_1 ?_
          refine jr_goto (tgt := 42) dX8_from_38 rfl ?_
          exact hJ11 (1 : Int32) hf
  · refine jr_if_ne (tgt := 18) dX8_from_11 rfl (fun c52 => ?_) (fun c52 => ?_)
    · have hf := so_f c52 hf
      refine jr_iconst dX8_from_18 ic_0 ?_
      exact hJ5 (0 : Int32) hf
    · have hf := so_t c52 hf
      refine jr_iconst dX8_from_14 ic_1 ?_
      refine jr_goto (tgt := 19) dX8_from_15 rfl ?_
      exact hJ5 (1 : Int32) hf

/- X8_isTold -/
abbrev kX8_isTold : jx_K := (cX8_isTold, 3, RX8, 0, (Option.some Jvm.ClassFile.FieldType.boolean), "isTold", [])
def LX8_isTold_2 (f1 : Int32) (sg : tm_S) : Nat → Int32 → Option Int32
  | 0, _ => none
  | n + 1, v1 =>
    if (sg 0 36) ≤ v1 then
    (some (0 : Int32))
    else
    (so_gd (so_in v1 6) fun _ =>
    so_gd (so_in (0 : Int32) 2) fun _ =>
    if (sg (372 + v1.toNatClampNeg) (0 : Int32).toNatClampNeg) = f1 then
    (some (1 : Int32))
    else
    (LX8_isTold_2 f1 sg n (v1 + (1 : Int32))))
set_option maxHeartbeats 4000000 in
set_option maxRecDepth 100000 in
theorem wX8_isTold_2 {res : Int32} {S0 : so_St}   (f1 : Int32) (hT : tm_Sh S0) (sg : tm_S)  : ∀ (n : Nat) (v1 : Int32), LX8_isTold_2 f1 sg n v1 = some res → jg_ (tm_j S0 sg, tm_j S0 sg, .inl (some (.int res))) kX8_isTold 2 [(0, .ref (tm_a 0)), (1, .int f1), (2, .int v1)] [] (tm_j S0 sg) := by
  intro n
  induction n with
  | zero =>
    intro v1 hf
    exact so_no hf
  | succ n ih =>
    intro v1 hf
    rw [LX8_isTold_2] at hf
    refine jr_iload_n dX8_isTold_2 rfl rfl ?_
    refine jr_aload_n dX8_isTold_3 rfl rfl jv_rr ?_
    refine tr_getI fl_X8_209_23 dX8_isTold_4 ?_
    refine jr_icmp_ge (tgt := 30) dX8_isTold_7 rfl (fun c2 => ?_) (fun c2 => ?_)
    · have hf := so_t c2 hf
      refine jr_iconst dX8_isTold_30 ic_0 ?_
      obtain rfl := so_e1 hf
      exact jr_iret rfl rfl dX8_isTold_31
    · have hf := so_f c2 hf
      refine jr_aload_n dX8_isTold_10 rfl rfl jv_rr ?_
      refine tr_getR (c := 371) hT (List.mem_of_getElem? (i := 14) rfl) fl_X8_58_23 dX8_isTold_11 ?_
      refine jr_iload_n dX8_isTold_14 rfl rfl ?_
      obtain ⟨g3, hf⟩ := so_gdE hf
      refine tr_aaload (g' := 372) hT (show tm_k 371 = 56 from rfl) rfl rfl (so_inE g3) dX8_isTold_15 ?_
      refine jr_iconst dX8_isTold_16 ic_0 ?_
      obtain ⟨g4, hf⟩ := so_gdE hf
      refine tr_iaload hT (tm_rk_371 (so_inE g3)) (tm_rl_371 (so_inE g3)) (so_inE g4) dX8_isTold_17 ?_
      refine jr_iload_n dX8_isTold_18 rfl rfl ?_
      refine jr_icmp_ne (tgt := 24) dX8_isTold_19 rfl (fun c5 => ?_) (fun c5 => ?_)
      · have hf := so_f c5 hf
        refine jr_iinc (v := v1 + (1 : Int32)) (lv' := [(0, .ref (tm_a 0)), (1, .int f1), (2, .int (v1 + (1 : Int32)))]) dX8_isTold_24 rfl rfl (so_le rfl) rfl ?_
        refine jr_goto (tgt := 2) dX8_isTold_27 rfl ?_
        exact ih (v1 + (1 : Int32)) hf
      · have hf := so_t c5 hf
        refine jr_iconst dX8_isTold_22 ic_1 ?_
        obtain rfl := so_e1 hf
        exact jr_iret rfl rfl dX8_isTold_23
def fX8_isTold (a1 : Int32) (sg : tm_S) : Option Int32 :=
  LX8_isTold_2 a1 sg so_N (0 : Int32)
set_option maxHeartbeats 4000000 in
set_option maxRecDepth 100000 in
theorem wX8_isTold {res : Int32} {S0 : so_St}  (a1 : Int32) (hT : tm_Sh S0) (sg : tm_S)  (hf : fX8_isTold a1 sg = some res) : jx_Sp 0 yX8_isTold (ws_ yX8_isTold cX8_isTold 3 (Option.some Jvm.ClassFile.FieldType.boolean)) [.ref (tm_a 0), .int a1] (tm_j S0 sg) (.inl (some (.int res))) (tm_j S0 sg) := by
  refine jx_of (plainFor_of_name (by decide)) (so_le rfl) ?_
  show jg_ ((tm_j S0 sg), (tm_j S0 sg), .inl (some (.int res))) kX8_isTold 0 [(0, .ref (tm_a 0)), (1, .int a1)] [] (tm_j S0 sg)
  unfold fX8_isTold at hf
  refine jr_iconst dX8_isTold_0 ic_0 ?_
  refine jr_istore_n (lv' := [(0, .ref (tm_a 0)), (1, .int a1), (2, .int (0 : Int32))]) dX8_isTold_1 rfl (so_le rfl) rfl ?_
  refine wX8_isTold_2 a1 hT sg so_N (0 : Int32) hf

/- X8_look -/
abbrev kX8_look : jx_K := (cX8_look, 8, RX8, 5, (Option.some Jvm.ClassFile.FieldType.int), "look", [])
def LX8_look_63 (f1 : Int32) (f2 : Int32) (f3 : Int32) (k86 : tm_S → Option (Int32 × tm_S)) : Nat → Int32 → tm_S → Option (Int32 × tm_S)
  | 0, _, _ => none
  | n + 1, v19, S20 =>
    if (99 : Int32) < v19 then
    (k86 S20)
    else
    (so_gd (so_in f3 61) fun _ =>
    so_gd (so_in v19 100) fun _ =>
    tm_let (tm_up S20 (495 + f3.toNatClampNeg) v19.toNatClampNeg (0 : Int32)) fun S24 =>
    LX8_look_63 f1 f2 f3 k86 n (v19 + (1 : Int32)) S24)
set_option maxHeartbeats 4000000 in
set_option maxRecDepth 100000 in
theorem wX8_look_63 {res : Int32} {sg' : tm_S} {S0 : so_St} {sg0 : tm_S}   (f1 : Int32) (f2 : Int32) (f3 : Int32) (hT : tm_Sh S0)   (k86 : tm_S → Option (Int32 × tm_S)) (h86 : ∀ (S25 : tm_S), k86 S25 = some (res, sg') → jg_ (tm_j S0 sg0, tm_j S0 sg', .inl (some (.int res))) kX8_look 86 [(0, .ref (tm_a 0)), (1, .int f1), (2, .int f2), (3, .int f3)] [] (tm_j S0 S25)) : ∀ (n : Nat) (v19 : Int32) (S20 : tm_S), LX8_look_63 f1 f2 f3 k86 n v19 S20 = some (res, sg') → jg_ (tm_j S0 sg0, tm_j S0 sg', .inl (some (.int res))) kX8_look 63 [(0, .ref (tm_a 0)), (1, .int f1), (2, .int f2), (3, .int f3), (4, .int v19)] [] (tm_j S0 S20) := by
  intro n
  induction n with
  | zero =>
    intro v19 S20 hf
    exact so_no hf
  | succ n ih =>
    intro v19 S20 hf
    rw [LX8_look_63] at hf
    refine jr_iload dX8_look_63 rfl ?_
    refine jr_bipush dX8_look_65 bp_99 ?_
    refine jr_icmp_gt (tgt := 86) dX8_look_67 rfl (fun c21 => ?_) (fun c21 => ?_)
    · have hf := so_t c21 hf
      refine jr_sub [0, 1, 2, 3] rfl ?_
      exact h86 S20 hf
    · have hf := so_f c21 hf
      refine jr_aload_n dX8_look_70 rfl rfl jv_rr ?_
      refine tr_getR (c := 494) hT (List.mem_of_getElem? (i := 26) rfl) fl_X8_94_23 dX8_look_71 ?_
      refine jr_iload_n dX8_look_74 rfl rfl ?_
      obtain ⟨g22, hf⟩ := so_gdE hf
      refine tr_aaload (g' := 495) hT (show tm_k 494 = 56 from rfl) rfl rfl (so_inE g22) dX8_look_75 ?_
      refine jr_iload dX8_look_76 rfl ?_
      refine jr_iconst dX8_look_78 ic_0 ?_
      obtain ⟨g23, hf⟩ := so_gdE hf
      refine tr_iastore hT (tm_rk_494 (so_inE g22)) (tm_rl_494 (so_inE g22)) (so_inE g23) dX8_look_79 ?_
      refine tm_let_e hf (fun S24 hf => ?_)
      refine jr_iinc (v := v19 + (1 : Int32)) (lv' := [(0, .ref (tm_a 0)), (1, .int f1), (2, .int f2), (3, .int f3), (4, .int (v19 + (1 : Int32)))]) dX8_look_80 rfl rfl (so_le rfl) rfl ?_
      refine jr_goto (tgt := 63) dX8_look_83 rfl ?_
      exact ih (v19 + (1 : Int32)) S24 hf
def LX8_look_54 (f1 : Int32) (f2 : Int32) (k92 : tm_S → Option (Int32 × tm_S)) : Nat → Int32 → tm_S → Option (Int32 × tm_S)
  | 0, _, _ => none
  | n + 1, v16, S17 =>
    if (60 : Int32) < v16 then
    (k92 S17)
    else
    (LX8_look_63 f1 f2 v16 (fun (S26 : tm_S) =>
    LX8_look_54 f1 f2 k92 n (v16 + (1 : Int32)) S26) so_N (0 : Int32) S17)
set_option maxHeartbeats 4000000 in
set_option maxRecDepth 100000 in
theorem wX8_look_54 {res : Int32} {sg' : tm_S} {S0 : so_St} {sg0 : tm_S}   (f1 : Int32) (f2 : Int32) (hT : tm_Sh S0)   (k92 : tm_S → Option (Int32 × tm_S)) (h92 : ∀ (S27 : tm_S), k92 S27 = some (res, sg') → jg_ (tm_j S0 sg0, tm_j S0 sg', .inl (some (.int res))) kX8_look 92 [(0, .ref (tm_a 0)), (1, .int f1), (2, .int f2)] [] (tm_j S0 S27)) : ∀ (n : Nat) (v16 : Int32) (S17 : tm_S), LX8_look_54 f1 f2 k92 n v16 S17 = some (res, sg') → jg_ (tm_j S0 sg0, tm_j S0 sg', .inl (some (.int res))) kX8_look 54 [(0, .ref (tm_a 0)), (1, .int f1), (2, .int f2), (3, .int v16)] [] (tm_j S0 S17) := by
  intro n
  induction n with
  | zero =>
    intro v16 S17 hf
    exact so_no hf
  | succ n ih =>
    intro v16 S17 hf
    rw [LX8_look_54] at hf
    refine jr_iload_n dX8_look_54 rfl rfl ?_
    refine jr_bipush dX8_look_55 bp_60 ?_
    refine jr_icmp_gt (tgt := 92) dX8_look_57 rfl (fun c18 => ?_) (fun c18 => ?_)
    · have hf := so_t c18 hf
      refine jr_sub [0, 1, 2] rfl ?_
      exact h92 S17 hf
    · have hf := so_f c18 hf
      refine jr_iconst dX8_look_60 ic_0 ?_
      refine jr_istore (lv' := [(0, .ref (tm_a 0)), (1, .int f1), (2, .int f2), (3, .int v16), (4, .int (0 : Int32))]) dX8_look_61 (so_le rfl) rfl ?_
      refine wX8_look_63 f1 f2 v16 hT _ (fun S26 hf => ?_) so_N (0 : Int32) S17 hf
      refine jr_iinc (v := v16 + (1 : Int32)) (lv' := [(0, .ref (tm_a 0)), (1, .int f1), (2, .int f2), (3, .int (v16 + (1 : Int32)))]) dX8_look_86 rfl rfl (so_le rfl) rfl ?_
      refine jr_goto (tgt := 54) dX8_look_89 rfl ?_
      exact ih (v16 + (1 : Int32)) S26 hf
def LX8_look_128 (f1 : Int32) (f2 : Int32) (f3 : Int32) (f4 : Int32) (k160 : tm_S → Option (Int32 × tm_S)) : Nat → Int32 → tm_S → Option (Int32 × tm_S)
  | 0, _, _ => none
  | n + 1, v43, S44 =>
    if (60 : Int32) < v43 then
    (k160 S44)
    else
    (so_gd (so_in v43 61) fun _ =>
    so_gd (so_in v43 61) fun _ =>
    so_gd (so_in (S44 493 v43.toNatClampNeg) 100) fun _ =>
    so_gd (so_in (S44 493 v43.toNatClampNeg) 100) fun _ =>
    tm_let (tm_up S44 (495 + v43.toNatClampNeg) (S44 493 v43.toNatClampNeg).toNatClampNeg ((S44 (495 + v43.toNatClampNeg) (S44 493 v43.toNatClampNeg).toNatClampNeg) + (1 : Int32))) fun S50 =>
    LX8_look_128 f1 f2 f3 f4 k160 n (v43 + (1 : Int32)) S50)
set_option maxHeartbeats 4000000 in
set_option maxRecDepth 100000 in
theorem wX8_look_128 {res : Int32} {sg' : tm_S} {S0 : so_St} {sg0 : tm_S}   (f1 : Int32) (f2 : Int32) (f3 : Int32) (f4 : Int32) (hT : tm_Sh S0)   (k160 : tm_S → Option (Int32 × tm_S)) (h160 : ∀ (S51 : tm_S), k160 S51 = some (res, sg') → jg_ (tm_j S0 sg0, tm_j S0 sg', .inl (some (.int res))) kX8_look 160 [(0, .ref (tm_a 0)), (1, .int f1), (2, .int f2), (3, .int f3), (4, .int f4)] [] (tm_j S0 S51)) : ∀ (n : Nat) (v43 : Int32) (S44 : tm_S), LX8_look_128 f1 f2 f3 f4 k160 n v43 S44 = some (res, sg') → jg_ (tm_j S0 sg0, tm_j S0 sg', .inl (some (.int res))) kX8_look 128 [(0, .ref (tm_a 0)), (1, .int f1), (2, .int f2), (3, .int f3), (4, .int f4), (5, .int v43)] [] (tm_j S0 S44) := by
  intro n
  induction n with
  | zero =>
    intro v43 S44 hf
    exact so_no hf
  | succ n ih =>
    intro v43 S44 hf
    rw [LX8_look_128] at hf
    refine jr_iload dX8_look_128 rfl ?_
    refine jr_bipush dX8_look_130 bp_60 ?_
    refine jr_icmp_gt (tgt := 160) dX8_look_132 rfl (fun c45 => ?_) (fun c45 => ?_)
    · have hf := so_t c45 hf
      refine jr_sub [0, 1, 2, 3, 4] rfl ?_
      exact h160 S44 hf
    · have hf := so_f c45 hf
      refine jr_aload_n dX8_look_135 rfl rfl jv_rr ?_
      refine tr_getR (c := 494) hT (List.mem_of_getElem? (i := 26) rfl) fl_X8_94_23 dX8_look_136 ?_
      refine jr_iload dX8_look_139 rfl ?_
      obtain ⟨g46, hf⟩ := so_gdE hf
      refine tr_aaload (g' := 495) hT (show tm_k 494 = 56 from rfl) rfl rfl (so_inE g46) dX8_look_141 ?_
      refine jr_aload_n dX8_look_142 rfl rfl jv_rr ?_
      refine tr_getR (c := 493) hT (List.mem_of_getElem? (i := 25) rfl) fl_X8_91_23 dX8_look_143 ?_
      refine jr_iload dX8_look_146 rfl ?_
      obtain ⟨g47, hf⟩ := so_gdE hf
      refine tr_iaload hT (show tm_k 493 = 50 from rfl) rfl (so_inE g47) dX8_look_148 ?_
      refine jr_dup2 dX8_look_149 rfl rfl ?_
      obtain ⟨g48, hf⟩ := so_gdE hf
      refine tr_iaload hT (tm_rk_494 (so_inE g46)) (tm_rl_494 (so_inE g46)) (so_inE g48) dX8_look_150 ?_
      refine jr_iconst dX8_look_151 ic_1 ?_
      refine jr_iadd dX8_look_152 ?_
      obtain ⟨g49, hf⟩ := so_gdE hf
      refine tr_iastore hT (tm_rk_494 (so_inE g46)) (tm_rl_494 (so_inE g46)) (so_inE g49) dX8_look_153 ?_
      refine tm_let_e hf (fun S50 hf => ?_)
      refine jr_iinc (v := v43 + (1 : Int32)) (lv' := [(0, .ref (tm_a 0)), (1, .int f1), (2, .int f2), (3, .int f3), (4, .int f4), (5, .int (v43 + (1 : Int32)))]) dX8_look_154 rfl rfl (so_le rfl) rfl ?_
      refine jr_goto (tgt := 128) dX8_look_157 rfl ?_
      exact ih (v43 + (1 : Int32)) S50 hf
def LX8_look_103 (f1 : Int32) (f2 : Int32) (f3 : Int32) (k166 : tm_S → Option (Int32 × tm_S)) : Nat → Int32 → tm_S → Option (Int32 × tm_S)
  | 0, _, _ => none
  | n + 1, v32, S33 =>
    if (99 : Int32) < v32 then
    (k166 S33)
    else
    ((fX8_laysHeard f1 f3 v32 S33).bind fun S37 =>
    (fX8_isHeard S37).bind fun r39 =>
    so_j (κ := tm_S → Option (Int32 × tm_S)) (ρ := Option (Int32 × tm_S)) (fun (S40 : tm_S) =>
    LX8_look_103 f1 f2 f3 k166 n (v32 + (1 : Int32)) S40)
    (fun J41 =>
    if r39 = (0 : Int32) then
    (J41 S37)
    else
    (LX8_look_128 f1 f2 f3 v32 (fun (S52 : tm_S) =>
    J41 S52) so_N (0 : Int32) S37)))
set_option maxHeartbeats 4000000 in
set_option maxRecDepth 100000 in
theorem wX8_look_103 {res : Int32} {sg' : tm_S} {S0 : so_St} {sg0 : tm_S}   (f1 : Int32) (f2 : Int32) (f3 : Int32) (hT : tm_Sh S0)   (k166 : tm_S → Option (Int32 × tm_S)) (h166 : ∀ (S53 : tm_S), k166 S53 = some (res, sg') → jg_ (tm_j S0 sg0, tm_j S0 sg', .inl (some (.int res))) kX8_look 166 [(0, .ref (tm_a 0)), (1, .int f1), (2, .int f2), (3, .int f3)] [] (tm_j S0 S53)) : ∀ (n : Nat) (v32 : Int32) (S33 : tm_S), LX8_look_103 f1 f2 f3 k166 n v32 S33 = some (res, sg') → jg_ (tm_j S0 sg0, tm_j S0 sg', .inl (some (.int res))) kX8_look 103 [(0, .ref (tm_a 0)), (1, .int f1), (2, .int f2), (3, .int f3), (4, .int v32)] [] (tm_j S0 S33) := by
  intro n
  induction n with
  | zero =>
    intro v32 S33 hf
    exact so_no hf
  | succ n ih =>
    intro v32 S33 hf
    rw [LX8_look_103] at hf
    refine jr_iload dX8_look_103 rfl ?_
    refine jr_bipush dX8_look_105 bp_99 ?_
    refine jr_icmp_gt (tgt := 166) dX8_look_107 rfl (fun c34 => ?_) (fun c34 => ?_)
    · have hf := so_t c34 hf
      refine jr_sub [0, 1, 2, 3] rfl ?_
      exact h166 S33 hf
    · have hf := so_f c34 hf
      refine jr_aload_n dX8_look_110 rfl rfl jv_rr ?_
      refine jr_iload_n dX8_look_111 rfl rfl ?_
      refine jr_iload_n dX8_look_112 rfl rfl ?_
      refine jr_iload dX8_look_113 rfl ?_
      obtain ⟨S37, h35, hf⟩ := so_b hf
      refine jr_callM (st := []) lk_X8_357_23 (wX8_laysHeard f1 f3 v32 hT S33 h35) tm_k23 rfl rfl rfl (so_le rfl) (so_le rfl) dX8_look_115 ?_
      refine jr_aload_n dX8_look_118 rfl rfl jv_rr ?_
      obtain ⟨r39, h38, hf⟩ := so_b hf
      refine jr_callM (st := []) lk_X8_361_23 (wX8_isHeard hT S37 h38) tm_k23 rfl rfl rfl (so_le rfl) (so_le rfl) dX8_look_119 ?_
      refine so_jE hf (fun J => ∀ (S40 : tm_S), J S40 = some (res, sg') → jg_ (tm_j S0 sg0, tm_j S0 sg', .inl (some (.int res))) kX8_look 160 [(0, .ref (tm_a 0)), (1, .int f1), (2, .int f2), (3, .int f3), (4, .int v32)] [] (tm_j S0 S40)) (fun S40 hf => ?_) (fun J41 hJ41 hf => ?_)
      · refine jr_iinc (v := v32 + (1 : Int32)) (lv' := [(0, .ref (tm_a 0)), (1, .int f1), (2, .int f2), (3, .int f3), (4, .int (v32 + (1 : Int32)))]) dX8_look_160 rfl rfl (so_le rfl) rfl ?_
        refine jr_goto (tgt := 103) dX8_look_163 rfl ?_
        exact ih (v32 + (1 : Int32)) S40 hf
      · refine jr_if_eq (tgt := 160) dX8_look_122 rfl (fun c42 => ?_) (fun c42 => ?_)
        · have hf := so_t c42 hf
          exact hJ41 S37 hf
        · have hf := so_f c42 hf
          refine jr_iconst dX8_look_125 ic_0 ?_
          refine jr_istore (lv' := [(0, .ref (tm_a 0)), (1, .int f1), (2, .int f2), (3, .int f3), (4, .int v32), (5, .int (0 : Int32))]) dX8_look_126 (so_le rfl) rfl ?_
          refine wX8_look_128 f1 f2 f3 v32 hT _ (fun S52 hf => ?_) so_N (0 : Int32) S37 hf
          exact hJ41 S52 hf
def LX8_look_94 (f1 : Int32) (f2 : Int32) (k172 : tm_S → Option (Int32 × tm_S)) : Nat → Int32 → tm_S → Option (Int32 × tm_S)
  | 0, _, _ => none
  | n + 1, v29, S30 =>
    if (9 : Int32) < v29 then
    (k172 S30)
    else
    (LX8_look_103 f1 f2 v29 (fun (S54 : tm_S) =>
    LX8_look_94 f1 f2 k172 n (v29 + (1 : Int32)) S54) so_N (0 : Int32) S30)
set_option maxHeartbeats 4000000 in
set_option maxRecDepth 100000 in
theorem wX8_look_94 {res : Int32} {sg' : tm_S} {S0 : so_St} {sg0 : tm_S}   (f1 : Int32) (f2 : Int32) (hT : tm_Sh S0)   (k172 : tm_S → Option (Int32 × tm_S)) (h172 : ∀ (S55 : tm_S), k172 S55 = some (res, sg') → jg_ (tm_j S0 sg0, tm_j S0 sg', .inl (some (.int res))) kX8_look 172 [(0, .ref (tm_a 0)), (2, .int f2)] [] (tm_j S0 S55)) : ∀ (n : Nat) (v29 : Int32) (S30 : tm_S), LX8_look_94 f1 f2 k172 n v29 S30 = some (res, sg') → jg_ (tm_j S0 sg0, tm_j S0 sg', .inl (some (.int res))) kX8_look 94 [(0, .ref (tm_a 0)), (1, .int f1), (2, .int f2), (3, .int v29)] [] (tm_j S0 S30) := by
  intro n
  induction n with
  | zero =>
    intro v29 S30 hf
    exact so_no hf
  | succ n ih =>
    intro v29 S30 hf
    rw [LX8_look_94] at hf
    refine jr_iload_n dX8_look_94 rfl rfl ?_
    refine jr_bipush dX8_look_95 bp_9 ?_
    refine jr_icmp_gt (tgt := 172) dX8_look_97 rfl (fun c31 => ?_) (fun c31 => ?_)
    · have hf := so_t c31 hf
      refine jr_sub [0, 2] rfl ?_
      exact h172 S30 hf
    · have hf := so_f c31 hf
      refine jr_iconst dX8_look_100 ic_0 ?_
      refine jr_istore (lv' := [(0, .ref (tm_a 0)), (1, .int f1), (2, .int f2), (3, .int v29), (4, .int (0 : Int32))]) dX8_look_101 (so_le rfl) rfl ?_
      refine wX8_look_103 f1 f2 v29 hT _ (fun S54 hf => ?_) so_N (0 : Int32) S30 hf
      refine jr_iinc (v := v29 + (1 : Int32)) (lv' := [(0, .ref (tm_a 0)), (1, .int f1), (2, .int f2), (3, .int (v29 + (1 : Int32)))]) dX8_look_166 rfl rfl (so_le rfl) rfl ?_
      refine jr_goto (tgt := 94) dX8_look_169 rfl ?_
      exact ih (v29 + (1 : Int32)) S54 hf
def LX8_look_205 (f2 : Int32) (f3 : Int32) (f4 : Int32) (f5 : Int32) (k235 : Int32 → tm_S → Option (Int32 × tm_S)) : Nat → Int32 → Int32 → tm_S → Option (Int32 × tm_S)
  | 0, _, _, _ => none
  | n + 1, v69, v70, S71 =>
    if (99 : Int32) < v70 then
    (k235 v69 S71)
    else
    (so_gd (so_in f5 61) fun _ =>
    so_gd (so_in v70 100) fun _ =>
    LX8_look_205 f2 f3 f4 f5 k235 n (fX8_more v69 (S71 (495 + f5.toNatClampNeg) v70.toNatClampNeg)) (v70 + (1 : Int32)) S71)
set_option maxHeartbeats 4000000 in
set_option maxRecDepth 100000 in
theorem wX8_look_205 {res : Int32} {sg' : tm_S} {S0 : so_St} {sg0 : tm_S}   (f2 : Int32) (f3 : Int32) (f4 : Int32) (f5 : Int32) (hT : tm_Sh S0)   (k235 : Int32 → tm_S → Option (Int32 × tm_S)) (h235 : ∀ (v75 : Int32) (S76 : tm_S), k235 v75 S76 = some (res, sg') → jg_ (tm_j S0 sg0, tm_j S0 sg', .inl (some (.int res))) kX8_look 235 [(0, .ref (tm_a 0)), (2, .int f2), (3, .int f3), (4, .int f4), (5, .int f5), (6, .int v75)] [] (tm_j S0 S76)) : ∀ (n : Nat) (v69 : Int32) (v70 : Int32) (S71 : tm_S), LX8_look_205 f2 f3 f4 f5 k235 n v69 v70 S71 = some (res, sg') → jg_ (tm_j S0 sg0, tm_j S0 sg', .inl (some (.int res))) kX8_look 205 [(0, .ref (tm_a 0)), (2, .int f2), (3, .int f3), (4, .int f4), (5, .int f5), (6, .int v69), (7, .int v70)] [] (tm_j S0 S71) := by
  intro n
  induction n with
  | zero =>
    intro v69 v70 S71 hf
    exact so_no hf
  | succ n ih =>
    intro v69 v70 S71 hf
    rw [LX8_look_205] at hf
    refine jr_iload dX8_look_205 rfl ?_
    refine jr_bipush dX8_look_207 bp_99 ?_
    refine jr_icmp_gt (tgt := 235) dX8_look_209 rfl (fun c72 => ?_) (fun c72 => ?_)
    · have hf := so_t c72 hf
      refine jr_sub [0, 1, 2, 3, 4, 5] rfl ?_
      exact h235 v69 S71 hf
    · have hf := so_f c72 hf
      refine jr_iload dX8_look_212 rfl ?_
      refine jr_aload_n dX8_look_214 rfl rfl jv_rr ?_
      refine tr_getR (c := 494) hT (List.mem_of_getElem? (i := 26) rfl) fl_X8_94_23 dX8_look_215 ?_
      refine jr_iload dX8_look_218 rfl ?_
      obtain ⟨g73, hf⟩ := so_gdE hf
      refine tr_aaload (g' := 495) hT (show tm_k 494 = 56 from rfl) rfl rfl (so_inE g73) dX8_look_220 ?_
      refine jr_iload dX8_look_221 rfl ?_
      obtain ⟨g74, hf⟩ := so_gdE hf
      refine tr_iaload hT (tm_rk_494 (so_inE g73)) (tm_rl_494 (so_inE g73)) (so_inE g74) dX8_look_223 ?_
      refine jr_call (st := []) lk_X8_252 (wX8_more v69 (S71 (495 + f5.toNatClampNeg) v70.toNatClampNeg) hT S71 rfl) jk_r0 rfl rfl (so_le rfl) (so_le rfl) dX8_look_224 ?_
      refine jr_istore (lv' := [(0, .ref (tm_a 0)), (2, .int f2), (3, .int f3), (4, .int f4), (5, .int f5), (6, .int (fX8_more v69 (S71 (495 + f5.toNatClampNeg) v70.toNatClampNeg))), (7, .int v70)]) dX8_look_227 (so_le rfl) rfl ?_
      refine jr_iinc (v := v70 + (1 : Int32)) (lv' := [(0, .ref (tm_a 0)), (2, .int f2), (3, .int f3), (4, .int f4), (5, .int f5), (6, .int (fX8_more v69 (S71 (495 + f5.toNatClampNeg) v70.toNatClampNeg))), (7, .int (v70 + (1 : Int32)))]) dX8_look_229 rfl rfl (so_le rfl) rfl ?_
      refine jr_goto (tgt := 205) dX8_look_232 rfl ?_
      exact ih (fX8_more v69 (S71 (495 + f5.toNatClampNeg) v70.toNatClampNeg)) (v70 + (1 : Int32)) S71 hf
def LX8_look_180 (f2 : Int32) (k263 : Int32 → Int32 → tm_S → Option (Int32 × tm_S)) : Nat → Int32 → Int32 → Int32 → tm_S → Option (Int32 × tm_S)
  | 0, _, _, _, _ => none
  | n + 1, v57, v58, v59, S60 =>
    if (60 : Int32) < v59 then
    (k263 v57 v58 S60)
    else
    ((fX8_isTold v59 S60).bind fun r63 =>
    so_j (κ := Int32 → Int32 → tm_S → Option (Int32 × tm_S)) (ρ := Option (Int32 × tm_S)) (fun (v64 : Int32) (v65 : Int32) (S66 : tm_S) =>
    LX8_look_180 f2 k263 n v64 v65 (v59 + (1 : Int32)) S66)
    (fun J67 =>
    if r63 = (0 : Int32) then
    (LX8_look_205 f2 v57 v58 v59 (fun (v77 : Int32) (S78 : tm_S) =>
    so_j (κ := Unit → Option (Int32 × tm_S)) (ρ := Option (Int32 × tm_S)) (fun (_u : Unit) =>
    J67 v59 v77 S78)
    (fun J79 =>
    if v57 = (-1 : Int32) then
    (J79 ())
    else
    (if v77 < v58 then
    (J79 ())
    else
    (J67 v57 v58 S78)))) so_N (0 : Int32) (0 : Int32) S60)
    else
    (J67 v57 v58 S60)))
set_option maxHeartbeats 4000000 in
set_option maxRecDepth 100000 in
theorem wX8_look_180 {res : Int32} {sg' : tm_S} {S0 : so_St} {sg0 : tm_S}   (f2 : Int32) (hT : tm_Sh S0)   (k263 : Int32 → Int32 → tm_S → Option (Int32 × tm_S)) (h263 : ∀ (v82 : Int32) (v83 : Int32) (S84 : tm_S), k263 v82 v83 S84 = some (res, sg') → jg_ (tm_j S0 sg0, tm_j S0 sg', .inl (some (.int res))) kX8_look 263 [(2, .int f2), (3, .int v82), (4, .int v83)] [] (tm_j S0 S84)) : ∀ (n : Nat) (v57 : Int32) (v58 : Int32) (v59 : Int32) (S60 : tm_S), LX8_look_180 f2 k263 n v57 v58 v59 S60 = some (res, sg') → jg_ (tm_j S0 sg0, tm_j S0 sg', .inl (some (.int res))) kX8_look 180 [(0, .ref (tm_a 0)), (2, .int f2), (3, .int v57), (4, .int v58), (5, .int v59)] [] (tm_j S0 S60) := by
  intro n
  induction n with
  | zero =>
    intro v57 v58 v59 S60 hf
    exact so_no hf
  | succ n ih =>
    intro v57 v58 v59 S60 hf
    rw [LX8_look_180] at hf
    refine jr_iload dX8_look_180 rfl ?_
    refine jr_bipush dX8_look_182 bp_60 ?_
    refine jr_icmp_gt (tgt := 263) dX8_look_184 rfl (fun c61 => ?_) (fun c61 => ?_)
    · have hf := so_t c61 hf
      refine jr_sub [1, 2, 3] rfl ?_
      exact h263 v57 v58 S60 hf
    · have hf := so_f c61 hf
      refine jr_aload_n dX8_look_187 rfl rfl jv_rr ?_
      refine jr_iload dX8_look_188 rfl ?_
      obtain ⟨r63, h62, hf⟩ := so_b hf
      refine jr_callM (st := []) lk_X8_364_23 (wX8_isTold v59 hT S60 h62) tm_k23 rfl rfl rfl (so_le rfl) (so_le rfl) dX8_look_190 ?_
      refine so_jE hf (fun J => ∀ (v64 : Int32) (v65 : Int32) (S66 : tm_S), J v64 v65 S66 = some (res, sg') → jg_ (tm_j S0 sg0, tm_j S0 sg', .inl (some (.int res))) kX8_look 257 [(0, .ref (tm_a 0)), (2, .int f2), (3, .int v64), (4, .int v65), (5, .int v59)] [] (tm_j S0 S66)) (fun v64 v65 S66 hf => ?_) (fun J67 hJ67 hf => ?_)
      · refine jr_iinc (v := v59 + (1 : Int32)) (lv' := [(0, .ref (tm_a 0)), (2, .int f2), (3, .int v64), (4, .int v65), (5, .int (v59 + (1 : Int32)))]) dX8_look_257 rfl rfl (so_le rfl) rfl ?_
        refine jr_goto (tgt := 180) dX8_look_260 rfl ?_
        exact ih v64 v65 (v59 + (1 : Int32)) S66 hf
      · refine jr_if_eq (tgt := 199) dX8_look_193 rfl (fun c68 => ?_) (fun c68 => ?_)
        · have hf := so_t c68 hf
          refine jr_iconst dX8_look_199 ic_0 ?_
          refine jr_istore (lv' := [(0, .ref (tm_a 0)), (2, .int f2), (3, .int v57), (4, .int v58), (5, .int v59), (6, .int (0 : Int32))]) dX8_look_200 (so_le rfl) rfl ?_
          refine jr_iconst dX8_look_202 ic_0 ?_
          refine jr_istore (lv' := [(0, .ref (tm_a 0)), (2, .int f2), (3, .int v57), (4, .int v58), (5, .int v59), (6, .int (0 : Int32)), (7, .int (0 : Int32))]) dX8_look_203 (so_le rfl) rfl ?_
          refine wX8_look_205 f2 v57 v58 v59 hT _ (fun v77 S78 hf => ?_) so_N (0 : Int32) (0 : Int32) S60 hf
          refine jr_iload_n dX8_look_235 rfl rfl ?_
          refine jr_iconst dX8_look_236 ic_m1 ?_
          refine so_jE hf (fun J => ∀ (u0 : Unit), J u0 = some (res, sg') → jg_ (tm_j S0 sg0, tm_j S0 sg', .inl (some (.int res))) kX8_look 250 [(0, .ref (tm_a 0)), (2, .int f2), (5, .int v59), (6, .int v77)] [] (tm_j S0 S78)) (fun _u hf => ?_) (fun J79 hJ79 hf => ?_)
          · refine jr_iload dX8_look_250 rfl ?_
            refine jr_istore_n (lv' := [(0, .ref (tm_a 0)), (2, .int f2), (3, .int v59), (5, .int v59), (6, .int v77)]) dX8_look_252 rfl (so_le rfl) rfl ?_
            refine jr_iload dX8_look_253 rfl ?_
            refine jr_istore (lv' := [(0, .ref (tm_a 0)), (2, .int f2), (3, .int v59), (4, .int v77), (5, .int v59), (6, .int v77)]) dX8_look_255 (so_le rfl) rfl ?_
            refine jr_sub [0, 1, 2, 3, 4] rfl ?_
            exact hJ67 v59 v77 S78 hf
          · refine jr_icmp_eq (tgt := 250) dX8_look_237 rfl (fun c80 => ?_) (fun c80 => ?_)
            · have hf := so_t c80 hf
              refine jr_sub [0, 1, 4, 5] rfl ?_
              exact hJ79 () hf
            · have hf := so_f c80 hf
              refine jr_iload dX8_look_240 rfl ?_
              refine jr_iload dX8_look_242 rfl ?_
              refine jr_icmp_lt (tgt := 250) dX8_look_244 rfl (fun c81 => ?_) (fun c81 => ?_)
              · have hf := so_t c81 hf
                refine jr_sub [0, 1, 4, 5] rfl ?_
                exact hJ79 () hf
              · have hf := so_f c81 hf
                refine jr_goto (tgt := 257) dX8_look_247 rfl ?_
                refine jr_sub [0, 1, 2, 3, 4] rfl ?_
                exact hJ67 v57 v58 S78 hf
        · have hf := so_f c68 hf
          refine jr_goto (tgt := 257) dX8_look_196 rfl ?_
          exact hJ67 v57 v58 S60 hf
def fX8_look (a1 : Int32) (a2 : Int32) (sg : tm_S) : Option (Int32 × tm_S) :=
  tm_let (tm_up sg 0 0 (0 : Int32)) fun S1 =>
  (fX8_isHouse a1 S1).bind fun r3 =>
  so_j (κ := Int32 → Option (Int32 × tm_S)) (ρ := Option (Int32 × tm_S)) (fun (v4 : Int32) =>
  tm_b2 (fX8_bad v4 (1 : Int32) (0 : Int32) S1) fun r7 S8 =>
  if r7 = (0 : Int32) then
  (so_j (κ := Int32 → Option (Int32 × tm_S)) (ρ := Option (Int32 × tm_S)) (fun (v10 : Int32) =>
  tm_b2 (fX8_bad v10 (2 : Int32) (1 : Int32) S8) fun r13 S14 =>
  if r13 = (0 : Int32) then
  (LX8_look_54 a1 a2 (fun (S28 : tm_S) =>
  LX8_look_94 a1 a2 (fun (S56 : tm_S) =>
  LX8_look_180 a2 (fun (v85 : Int32) (v86 : Int32) (S87 : tm_S) =>
  if a2 = (0 : Int32) then
  (some (v85, S87))
  else
  (some (v86, S87))) so_N (-1 : Int32) (-1 : Int32) (0 : Int32) S56) so_N (1 : Int32) S28) so_N (0 : Int32) S14)
  else
  (some ((0 : Int32), S14)))
  (fun J11 =>
  if (fX8_in a2 (0 : Int32) (1 : Int32)) = (0 : Int32) then
  (J11 (1 : Int32))
  else
  (J11 (0 : Int32))))
  else
  (some ((0 : Int32), S8)))
  (fun J5 =>
  if r3 = (0 : Int32) then
  (J5 (1 : Int32))
  else
  (J5 (0 : Int32)))
set_option maxHeartbeats 4000000 in
set_option maxRecDepth 100000 in
theorem wX8_look {res : Int32} {sg' : tm_S} {S0 : so_St}  (a1 : Int32) (a2 : Int32) (hT : tm_Sh S0) (sg : tm_S)  (hf : fX8_look a1 a2 sg = some (res, sg')) : jx_Sp 5 yX8_look (ws_ yX8_look cX8_look 8 (Option.some Jvm.ClassFile.FieldType.int)) [.ref (tm_a 0), .int a1, .int a2] (tm_j S0 sg) (.inl (some (.int res))) (tm_j S0 sg') := by
  refine jx_of (plainFor_of_name (by decide)) (so_le rfl) ?_
  show jg_ ((tm_j S0 sg), (tm_j S0 sg'), .inl (some (.int res))) kX8_look 0 [(0, .ref (tm_a 0)), (1, .int a1), (2, .int a2)] [] (tm_j S0 sg)
  unfold fX8_look at hf
  refine jr_aload_n dX8_look_0 rfl rfl jv_rr ?_
  refine jr_iconst dX8_look_1 ic_0 ?_
  refine tr_putI fp_X8_106_23 dX8_look_2 ?_
  refine tm_let_e hf (fun S1 hf => ?_)
  refine jr_aload_n dX8_look_5 rfl rfl jv_rr ?_
  refine jr_aload_n dX8_look_6 rfl rfl jv_rr ?_
  refine jr_iload_n dX8_look_7 rfl rfl ?_
  obtain ⟨r3, h2, hf⟩ := so_b hf
  refine jr_callM (st := [.ref (tm_a 0)]) lk_X8_339_23 (wX8_isHouse a1 hT S1 h2) tm_k23 rfl rfl rfl (so_le rfl) (so_le rfl) dX8_look_8 ?_
  refine so_jE hf (fun J => ∀ (v4 : Int32), J v4 = some (res, sg') → jg_ (tm_j S0 sg, tm_j S0 sg', .inl (some (.int res))) kX8_look 19 [(0, .ref (tm_a 0)), (1, .int a1), (2, .int a2)] [.int v4, .ref (tm_a 0)] (tm_j S0 S1)) (fun v4 hf => ?_) (fun J5 hJ5 hf => ?_)
  · refine jr_iconst dX8_look_19 ic_1 ?_
    refine jr_iconst dX8_look_20 ic_0 ?_
    obtain ⟨r7, S8, h6, hf⟩ := tm_b2E hf
    refine jr_callM (st := []) lk_X8_189_23 (wX8_bad v4 (1 : Int32) (0 : Int32) hT S1 h6) tm_k23 rfl rfl rfl (so_le rfl) (so_le rfl) dX8_look_21 ?_
    refine jr_if_ne (tgt := 50) dX8_look_24 rfl (fun c9 => ?_) (fun c9 => ?_)
    · have hf := so_f c9 hf
      refine jr_iconst dX8_look_50 ic_0 ?_
      obtain ⟨rfl, rfl⟩ := so_e2 hf
      exact jr_iret rfl rfl dX8_look_51
    · have hf := so_t c9 hf
      refine jr_aload_n dX8_look_27 rfl rfl jv_rr ?_
      refine jr_iload_n dX8_look_28 rfl rfl ?_
      refine jr_iconst dX8_look_29 ic_0 ?_
      refine jr_iconst dX8_look_30 ic_1 ?_
      refine jr_call (st := [.ref (tm_a 0)]) lk_X8_140 (wX8_in a2 (0 : Int32) (1 : Int32) hT S8 rfl) jk_r0 rfl rfl (so_le rfl) (so_le rfl) dX8_look_31 ?_
      refine so_jE hf (fun J => ∀ (v10 : Int32), J v10 = some (res, sg') → jg_ (tm_j S0 sg, tm_j S0 sg', .inl (some (.int res))) kX8_look 42 [(0, .ref (tm_a 0)), (1, .int a1), (2, .int a2)] [.int v10, .ref (tm_a 0)] (tm_j S0 S8)) (fun v10 hf => ?_) (fun J11 hJ11 hf => ?_)
      · refine jr_iconst dX8_look_42 ic_2 ?_
        refine jr_iconst dX8_look_43 ic_1 ?_
        obtain ⟨r13, S14, h12, hf⟩ := tm_b2E hf
        refine jr_callM (st := []) lk_X8_189_23 (wX8_bad v10 (2 : Int32) (1 : Int32) hT S8 h12) tm_k23 rfl rfl rfl (so_le rfl) (so_le rfl) dX8_look_44 ?_
        refine jr_if_eq (tgt := 52) dX8_look_47 rfl (fun c15 => ?_) (fun c15 => ?_)
        · have hf := so_t c15 hf
          refine jr_iconst dX8_look_52 ic_0 ?_
          refine jr_istore_n (lv' := [(0, .ref (tm_a 0)), (1, .int a1), (2, .int a2), (3, .int (0 : Int32))]) dX8_look_53 rfl (so_le rfl) rfl ?_
          refine wX8_look_54 a1 a2 hT _ (fun S28 hf => ?_) so_N (0 : Int32) S14 hf
          refine jr_iconst dX8_look_92 ic_1 ?_
          refine jr_istore_n (lv' := [(0, .ref (tm_a 0)), (1, .int a1), (2, .int a2), (3, .int (1 : Int32))]) dX8_look_93 rfl (so_le rfl) rfl ?_
          refine wX8_look_94 a1 a2 hT _ (fun S56 hf => ?_) so_N (1 : Int32) S28 hf
          refine jr_iconst dX8_look_172 ic_m1 ?_
          refine jr_istore_n (lv' := [(0, .ref (tm_a 0)), (2, .int a2), (3, .int (-1 : Int32))]) dX8_look_173 rfl (so_le rfl) rfl ?_
          refine jr_iconst dX8_look_174 ic_m1 ?_
          refine jr_istore (lv' := [(0, .ref (tm_a 0)), (2, .int a2), (3, .int (-1 : Int32)), (4, .int (-1 : Int32))]) dX8_look_175 (so_le rfl) rfl ?_
          refine jr_iconst dX8_look_177 ic_0 ?_
          refine jr_istore (lv' := [(0, .ref (tm_a 0)), (2, .int a2), (3, .int (-1 : Int32)), (4, .int (-1 : Int32)), (5, .int (0 : Int32))]) dX8_look_178 (so_le rfl) rfl ?_
          refine wX8_look_180 a2 hT _ (fun v85 v86 S87 hf => ?_) so_N (-1 : Int32) (-1 : Int32) (0 : Int32) S56 hf
          refine jr_iload_n dX8_look_263 rfl rfl ?_
          refine jr_if_ne (tgt := 271) dX8_look_264 rfl (fun c88 => ?_) (fun c88 => ?_)
          · have hf := so_f c88 hf
            refine jr_iload dX8_look_271 rfl ?_
            obtain ⟨rfl, rfl⟩ := so_e2 hf
            exact jr_iret rfl rfl dX8_look_273
          · have hf := so_t c88 hf
            refine jr_iload_n dX8_look_267 rfl rfl ?_
            refine jr_goto (tgt := 273) dX8_look_268 rfl ?_
            obtain ⟨rfl, rfl⟩ := so_e2 hf
            exact jr_iret rfl rfl dX8_look_273
        · have hf := so_f c15 hf
          refine jr_iconst dX8_look_50 ic_0 ?_
          obtain ⟨rfl, rfl⟩ := so_e2 hf
          exact jr_iret rfl rfl dX8_look_51
      · refine jr_if_ne (tgt := 41) dX8_look_34 rfl (fun c89 => ?_) (fun c89 => ?_)
        · have hf := so_f c89 hf
          refine jr_iconst dX8_look_41 ic_0 ?_
          exact hJ11 (0 : Int32) hf
        · have hf := so_t c89 hf
          refine jr_iconst dX8_look_37 ic_1 ?_
          refine jr_goto (tgt := 42) dX8_look_38 rfl ?_
          exact hJ11 (1 : Int32) hf
  · refine jr_if_ne (tgt := 18) dX8_look_11 rfl (fun c90 => ?_) (fun c90 => ?_)
    · have hf := so_f c90 hf
      refine jr_iconst dX8_look_18 ic_0 ?_
      exact hJ5 (0 : Int32) hf
    · have hf := so_t c90 hf
      refine jr_iconst dX8_look_14 ic_1 ?_
      refine jr_goto (tgt := 19) dX8_look_15 rfl ?_
      exact hJ5 (1 : Int32) hf
