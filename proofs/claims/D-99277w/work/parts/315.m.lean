/-! printed: functions and walks -/
set_option maxRecDepth 100000
set_option linter.unusedVariables false
/- X1_span -/
abbrev kX1_span : jx_K := (cX1_span, 13, RX1, 1207, (Option.some Jvm.ClassFile.FieldType.int), "span", [])
def LX1_span_68 (f0 : Nat) (f1 : Int32) (f2 : Int32) (f3 : Int32) (f4 : Int32) (f5 : Int32) (f6 : Int32) (k152 : Int32 → Int32 → Int32 → so_St → Option ((Int32 ⊕ Nat) × so_St)) : Nat → Int32 → Int32 → Int32 → Int32 → so_St → Option ((Int32 ⊕ Nat) × so_St)
  | 0, _, _, _, _, _ => none
  | n + 1, v9, v10, v11, v12, S13 =>
    if f2 ≤ v12 then
    (k152 v9 v10 v11 S13)
    else
    (so_b2 (fX1_yearBy f0 (f1 + v12) f3 f4 S13) fun r16 S17 =>
    so_gd (decide (r16 % 64 ∈ [22])) fun _ =>
    (fX7_changed r16 S17).bind fun r20 =>
    so_j (κ := Int32 → Option ((Int32 ⊕ Nat) × so_St)) (ρ := Option ((Int32 ⊕ Nat) × so_St)) (fun (v21 : Int32) =>
    so_j (κ := Int32 → Option ((Int32 ⊕ Nat) × so_St)) (ρ := Option ((Int32 ⊕ Nat) × so_St)) (fun (v23 : Int32) =>
    LX1_span_68 f0 f1 f2 f3 f4 f5 f6 k152 n v21 (fJ12_max v10 (fJ16_bitCount r20)) (v11 + v23) (v12 + (1 : Int32)) S17)
    (fun J24 =>
    if (fX1_has r20 f6) = (0 : Int32) then
    (J24 (0 : Int32))
    else
    (J24 (1 : Int32))))
    (fun J22 =>
    if v9 = (-1 : Int32) then
    (J22 (fJ16_bitCount r20))
    else
    (J22 (fJ12_min v9 (fJ16_bitCount r20)))))
set_option maxHeartbeats 4000000 in
set_option maxRecDepth 100000 in
theorem wX1_span_68 {res : Int32 ⊕ Nat} {S' : so_St} {S0 : so_St}   (f0 : Nat) (f1 : Int32) (f2 : Int32) (f3 : Int32) (f4 : Int32) (f5 : Int32) (f6 : Int32)   (k_f0 : f0 % 64 ∈ [0]) (k152 : Int32 → Int32 → Int32 → so_St → Option ((Int32 ⊕ Nat) × so_St)) (h152 : ∀ (v27 : Int32) (v28 : Int32) (v29 : Int32) (S30 : so_St), k152 v27 v28 v29 S30 = some (res, S') → jg_ (S0, S', so_oi res) kX1_span 152 [(5, .int f5), (7, .int v27), (8, .int v28), (9, .int v29)] [] S30) : ∀ (n : Nat) (v9 : Int32) (v10 : Int32) (v11 : Int32) (v12 : Int32) (S13 : so_St), LX1_span_68 f0 f1 f2 f3 f4 f5 f6 k152 n v9 v10 v11 v12 S13 = some (res, S') → jg_ (S0, S', so_oi res) kX1_span 68 [(0, .ref f0), (1, .int f1), (2, .int f2), (3, .int f3), (4, .int f4), (5, .int f5), (6, .int f6), (7, .int v9), (8, .int v10), (9, .int v11), (10, .int v12)] [] S13 := by
  intro n
  induction n with
  | zero =>
    intro v9 v10 v11 v12 S13 hf
    exact so_no hf
  | succ n ih =>
    intro v9 v10 v11 v12 S13 hf
    rw [LX1_span_68] at hf
    refine jr_iload dX1_span_68 rfl ?_
    refine jr_iload_n dX1_span_70 rfl rfl ?_
    refine jr_icmp_ge (tgt := 152) dX1_span_71 rfl (fun c14 => ?_) (fun c14 => ?_)
    · have hf := so_t c14 hf
      refine jr_sub [5, 7, 8, 9] rfl ?_
      exact h152 v9 v10 v11 S13 hf
    · have hf := so_f c14 hf
      refine jr_aload_n dX1_span_74 rfl rfl jv_rr ?_
      refine jr_iload_n dX1_span_75 rfl rfl ?_
      refine jr_iload dX1_span_76 rfl ?_
      refine jr_iadd dX1_span_78 ?_
      refine jr_iload_n dX1_span_79 rfl rfl ?_
      refine jr_iload dX1_span_80 rfl ?_
      obtain ⟨r16, S17, h15, hf⟩ := so_b2E hf
      obtain ⟨g18, hf⟩ := so_gdE hf
      refine jr_callM (st := []) lk_X1_412_0 (wX1_yearBy f0 (f1 + v12) f3 f4 S13 k_f0 h15) k_f0 rfl rfl rfl (so_le rfl) (so_le rfl) dX1_span_82 ?_
      obtain ⟨r20, h19, hf⟩ := so_b hf
      refine jr_callM (st := []) lk_X1_342_22 (wX7_changed r16 S17 (of_decide_eq_true g18) h19) (of_decide_eq_true g18) rfl rfl rfl (so_le rfl) (so_le rfl) dX1_span_85 ?_
      refine jr_istore (lv' := [(0, .ref f0), (1, .int f1), (2, .int f2), (3, .int f3), (4, .int f4), (5, .int f5), (6, .int f6), (7, .int v9), (8, .int v10), (9, .int v11), (10, .int v12), (11, .int r20)]) dX1_span_88 (so_le rfl) rfl ?_
      refine jr_iload dX1_span_90 rfl ?_
      refine jr_call (st := []) lk_X1_373 (wJ16_bitCount r20 S17 rfl) jk_r0 rfl rfl (so_le rfl) (so_le rfl) dX1_span_92 ?_
      refine jr_istore (lv' := [(0, .ref f0), (1, .int f1), (2, .int f2), (3, .int f3), (4, .int f4), (5, .int f5), (6, .int f6), (7, .int v9), (8, .int v10), (9, .int v11), (10, .int v12), (11, .int r20), (12, .int (fJ16_bitCount r20))]) dX1_span_95 (so_le rfl) rfl ?_
      refine jr_iload dX1_span_97 rfl ?_
      refine jr_iconst dX1_span_99 ic_m1 ?_
      refine so_jE hf (fun J => ∀ (v21 : Int32), J v21 = some (res, S') → jg_ (S0, S', so_oi res) kX1_span 115 [(0, .ref f0), (1, .int f1), (2, .int f2), (3, .int f3), (4, .int f4), (5, .int f5), (6, .int f6), (8, .int v10), (9, .int v11), (10, .int v12), (11, .int r20), (12, .int (fJ16_bitCount r20))] [.int v21] S17) (fun v21 hf => ?_) (fun J22 hJ22 hf => ?_)
      · refine jr_istore (lv' := [(0, .ref f0), (1, .int f1), (2, .int f2), (3, .int f3), (4, .int f4), (5, .int f5), (6, .int f6), (7, .int v21), (8, .int v10), (9, .int v11), (10, .int v12), (11, .int r20), (12, .int (fJ16_bitCount r20))]) dX1_span_115 (so_le rfl) rfl ?_
        refine jr_iload dX1_span_117 rfl ?_
        refine jr_iload dX1_span_119 rfl ?_
        refine jr_call (st := []) lk_X1_140 (wJ12_max v10 (fJ16_bitCount r20) S17 rfl) jk_r0 rfl rfl (so_le rfl) (so_le rfl) dX1_span_121 ?_
        refine jr_istore (lv' := [(0, .ref f0), (1, .int f1), (2, .int f2), (3, .int f3), (4, .int f4), (5, .int f5), (6, .int f6), (7, .int v21), (8, .int (fJ12_max v10 (fJ16_bitCount r20))), (9, .int v11), (10, .int v12), (11, .int r20), (12, .int (fJ16_bitCount r20))]) dX1_span_124 (so_le rfl) rfl ?_
        refine jr_iload dX1_span_126 rfl ?_
        refine jr_iload dX1_span_128 rfl ?_
        refine jr_iload dX1_span_130 rfl ?_
        refine jr_call (st := [.int v11]) lk_X1_349 (wX1_has r20 f6 S17 rfl) jk_r0 rfl rfl (so_le rfl) (so_le rfl) dX1_span_132 ?_
        refine so_jE hf (fun J => ∀ (v23 : Int32), J v23 = some (res, S') → jg_ (S0, S', so_oi res) kX1_span 143 [(0, .ref f0), (1, .int f1), (2, .int f2), (3, .int f3), (4, .int f4), (5, .int f5), (6, .int f6), (7, .int v21), (8, .int (fJ12_max v10 (fJ16_bitCount r20))), (10, .int v12)] [.int v23, .int v11] S17) (fun v23 hf => ?_) (fun J24 hJ24 hf => ?_)
        · refine jr_iadd dX1_span_143 ?_
          refine jr_istore (lv' := [(0, .ref f0), (1, .int f1), (2, .int f2), (3, .int f3), (4, .int f4), (5, .int f5), (6, .int f6), (7, .int v21), (8, .int (fJ12_max v10 (fJ16_bitCount r20))), (9, .int (v11 + v23)), (10, .int v12)]) dX1_span_144 (so_le rfl) rfl ?_
          refine jr_iinc (v := v12 + (1 : Int32)) (lv' := [(0, .ref f0), (1, .int f1), (2, .int f2), (3, .int f3), (4, .int f4), (5, .int f5), (6, .int f6), (7, .int v21), (8, .int (fJ12_max v10 (fJ16_bitCount r20))), (9, .int (v11 + v23)), (10, .int (v12 + (1 : Int32)))]) dX1_span_146 rfl rfl (so_le rfl) rfl ?_
          refine jr_goto (tgt := 68) dX1_span_149 rfl ?_
          exact ih v21 (fJ12_max v10 (fJ16_bitCount r20)) (v11 + v23) (v12 + (1 : Int32)) S17 hf
        · refine jr_if_eq (tgt := 142) dX1_span_135 rfl (fun c25 => ?_) (fun c25 => ?_)
          · have hf := so_t c25 hf
            refine jr_iconst dX1_span_142 ic_0 ?_
            refine jr_sub [0, 1, 2, 3, 4, 5, 6, 7, 8, 10] rfl ?_
            exact hJ24 (0 : Int32) hf
          · have hf := so_f c25 hf
            refine jr_iconst dX1_span_138 ic_1 ?_
            refine jr_goto (tgt := 143) dX1_span_139 rfl ?_
            refine jr_sub [0, 1, 2, 3, 4, 5, 6, 7, 8, 10] rfl ?_
            exact hJ24 (1 : Int32) hf
      · refine jr_icmp_ne (tgt := 108) dX1_span_100 rfl (fun c26 => ?_) (fun c26 => ?_)
        · have hf := so_f c26 hf
          refine jr_iload dX1_span_108 rfl ?_
          refine jr_iload dX1_span_110 rfl ?_
          refine jr_call (st := []) lk_X1_134 (wJ12_min v9 (fJ16_bitCount r20) S17 rfl) jk_r0 rfl rfl (so_le rfl) (so_le rfl) dX1_span_112 ?_
          refine jr_sub [0, 1, 2, 3, 4, 5, 6, 8, 9, 10, 11, 12] rfl ?_
          exact hJ22 (fJ12_min v9 (fJ16_bitCount r20)) hf
        · have hf := so_t c26 hf
          refine jr_iload dX1_span_103 rfl ?_
          refine jr_goto (tgt := 115) dX1_span_105 rfl ?_
          refine jr_sub [0, 1, 2, 3, 4, 5, 6, 8, 9, 10, 11, 12] rfl ?_
          exact hJ22 (fJ16_bitCount r20) hf
def fX1_span (a0 : Nat) (a1 : Int32) (a2 : Int32) (a3 : Int32) (a4 : Int32) (a5 : Int32) (a6 : Int32) (S : so_St) : Option ((Int32 ⊕ Nat) × so_St) :=
  so_j (κ := Int32 → Option ((Int32 ⊕ Nat) × so_St)) (ρ := Option ((Int32 ⊕ Nat) × so_St)) (fun (v1 : Int32) =>
  so_b3 (fX1_need a0 v1 S) (fun r3 S4 =>
  LX1_span_68 a0 a1 a2 a3 a4 a5 a6 (fun (v31 : Int32) (v32 : Int32) (v33 : Int32) (S34 : so_St) =>
  if a5 = (0 : Int32) then
  (some (.inl v31, S34))
  else
  (if a5 = (1 : Int32) then
  (some (.inl v32, S34))
  else
  (some (.inl v33, S34)))) so_N (-1 : Int32) (0 : Int32) (0 : Int32) (0 : Int32) S4)
  (fun x5 S6 =>
  so_gd (decide (x5 % 64 ∈ [27])) fun _ =>
  some (.inr x5, S6)))
  (fun J2 =>
  so_j (κ := Unit → Option ((Int32 ⊕ Nat) × so_St)) (ρ := Option ((Int32 ⊕ Nat) × so_St)) (fun (_u : Unit) =>
  J2 (0 : Int32))
  (fun J37 =>
  if (fX1_isIn a2 (1 : Int32) (20 : Int32)) = (0 : Int32) then
  (J37 ())
  else
  (if (fX1_isYear a3 a4) = (0 : Int32) then
  (J37 ())
  else
  (if (fX1_isIn a5 (0 : Int32) (2 : Int32)) = (0 : Int32) then
  (J37 ())
  else
  ((so_rk (so_R S a0 0) [1]).bind fun p41 =>
  if (fX1_isIn a6 (0 : Int32) ((so_I S p41 6) - (1 : Int32))) = (0 : Int32) then
  (J37 ())
  else
  (J2 (1 : Int32)))))))
set_option maxHeartbeats 4000000 in
set_option maxRecDepth 100000 in
theorem wX1_span {res : Int32 ⊕ Nat} {S' : so_St}  (a0 : Nat) (a1 : Int32) (a2 : Int32) (a3 : Int32) (a4 : Int32) (a5 : Int32) (a6 : Int32)  (S : so_St) (k_a0 : a0 % 64 ∈ [0]) (hf : fX1_span a0 a1 a2 a3 a4 a5 a6 S = some (res, S')) : jx_Sp 1207 yX1_span (ws_ yX1_span cX1_span 13 (Option.some Jvm.ClassFile.FieldType.int)) [.ref a0, .int a1, .int a2, .int a3, .int a4, .int a5, .int a6] S (so_oi res) S' := by
  refine jx_of (plainFor_of_name (by decide)) (so_le rfl) ?_
  show jg_ (S, S', so_oi res) kX1_span 0 [(0, .ref a0), (1, .int a1), (2, .int a2), (3, .int a3), (4, .int a4), (5, .int a5), (6, .int a6)] [] S
  unfold fX1_span at hf
  refine jr_aload_n dX1_span_0 rfl rfl jv_rr ?_
  refine jr_iload_n dX1_span_1 rfl rfl ?_
  refine jr_iconst dX1_span_2 ic_1 ?_
  refine jr_bipush dX1_span_3 bp_20 ?_
  refine jr_call (st := [.ref a0]) lk_X1_246 (wX1_isIn a2 (1 : Int32) (20 : Int32) S rfl) jk_r0 rfl rfl (so_le rfl) (so_le rfl) dX1_span_5 ?_
  refine so_jE hf (fun J => ∀ (v1 : Int32), J v1 = some (res, S') → jg_ (S, S', so_oi res) kX1_span 53 [(0, .ref a0), (1, .int a1), (2, .int a2), (3, .int a3), (4, .int a4), (5, .int a5), (6, .int a6)] [.int v1, .ref a0] S) (fun v1 hf => ?_) (fun J2 hJ2 hf => ?_)
  · rcases so_b3E hf with ⟨r3, S4, h7, hf⟩ | ⟨x5, S6, h7, hf⟩
    · refine jr_callM (st := []) lk_X1_172_0 (wX1_need a0 v1 S k_a0 h7) k_a0 rfl rfl rfl (so_le rfl) (so_le rfl) dX1_span_53 ?_
      refine jr_iconst dX1_span_56 ic_m1 ?_
      refine jr_istore (lv' := [(0, .ref a0), (1, .int a1), (2, .int a2), (3, .int a3), (4, .int a4), (5, .int a5), (6, .int a6), (7, .int (-1 : Int32))]) dX1_span_57 (so_le rfl) rfl ?_
      refine jr_iconst dX1_span_59 ic_0 ?_
      refine jr_istore (lv' := [(0, .ref a0), (1, .int a1), (2, .int a2), (3, .int a3), (4, .int a4), (5, .int a5), (6, .int a6), (7, .int (-1 : Int32)), (8, .int (0 : Int32))]) dX1_span_60 (so_le rfl) rfl ?_
      refine jr_iconst dX1_span_62 ic_0 ?_
      refine jr_istore (lv' := [(0, .ref a0), (1, .int a1), (2, .int a2), (3, .int a3), (4, .int a4), (5, .int a5), (6, .int a6), (7, .int (-1 : Int32)), (8, .int (0 : Int32)), (9, .int (0 : Int32))]) dX1_span_63 (so_le rfl) rfl ?_
      refine jr_iconst dX1_span_65 ic_0 ?_
      refine jr_istore (lv' := [(0, .ref a0), (1, .int a1), (2, .int a2), (3, .int a3), (4, .int a4), (5, .int a5), (6, .int a6), (7, .int (-1 : Int32)), (8, .int (0 : Int32)), (9, .int (0 : Int32)), (10, .int (0 : Int32))]) dX1_span_66 (so_le rfl) rfl ?_
      refine wX1_span_68 a0 a1 a2 a3 a4 a5 a6 k_a0 _ (fun v31 v32 v33 S34 hf => ?_) so_N (-1 : Int32) (0 : Int32) (0 : Int32) (0 : Int32) S4 hf
      refine jr_iload dX1_span_152 rfl ?_
      refine jr_if_ne (tgt := 162) dX1_span_154 rfl (fun c35 => ?_) (fun c35 => ?_)
      · have hf := so_f c35 hf
        refine jr_iload dX1_span_162 rfl ?_
        refine jr_iconst dX1_span_164 ic_1 ?_
        refine jr_icmp_ne (tgt := 173) dX1_span_165 rfl (fun c36 => ?_) (fun c36 => ?_)
        · have hf := so_f c36 hf
          refine jr_iload dX1_span_173 rfl ?_
          obtain ⟨rfl, rfl⟩ := so_e2 hf
          exact jr_iret rfl rfl dX1_span_175
        · have hf := so_t c36 hf
          refine jr_iload dX1_span_168 rfl ?_
          refine jr_goto (tgt := 175) dX1_span_170 rfl ?_
          obtain ⟨rfl, rfl⟩ := so_e2 hf
          exact jr_iret rfl rfl dX1_span_175
      · have hf := so_t c35 hf
        refine jr_iload dX1_span_157 rfl ?_
        refine jr_goto (tgt := 175) dX1_span_159 rfl ?_
        obtain ⟨rfl, rfl⟩ := so_e2 hf
        exact jr_iret rfl rfl dX1_span_175
    · refine jr_callMX (st := []) lk_X1_172_0 (wX1_need a0 v1 S k_a0 h7) k_a0 rfl rfl rfl (so_le rfl) (so_le rfl) dX1_span_53 ?_
      obtain ⟨g8, hf⟩ := so_gdE hf
      obtain ⟨rfl, rfl⟩ := so_e2 hf
      exact jr_out (so_l29 (of_decide_eq_true g8) rfl).1 (so_l29 (of_decide_eq_true g8) rfl).2 rfl
  · refine so_jE hf (fun J => ∀ (u0 : Unit), J u0 = some (res, S') → jg_ (S, S', so_oi res) kX1_span 52 [(0, .ref a0), (1, .int a1), (2, .int a2), (3, .int a3), (4, .int a4), (5, .int a5), (6, .int a6)] [.ref a0] S) (fun _u hf => ?_) (fun J37 hJ37 hf => ?_)
    · refine jr_iconst dX1_span_52 ic_0 ?_
      exact hJ2 (0 : Int32) hf
    · refine jr_if_eq (tgt := 52) dX1_span_8 rfl (fun c38 => ?_) (fun c38 => ?_)
      · have hf := so_t c38 hf
        exact hJ37 () hf
      · have hf := so_f c38 hf
        refine jr_iload_n dX1_span_11 rfl rfl ?_
        refine jr_iload dX1_span_12 rfl ?_
        refine jr_call (st := [.ref a0]) lk_X1_409 (wX1_isYear a3 a4 S rfl) jk_r0 rfl rfl (so_le rfl) (so_le rfl) dX1_span_14 ?_
        refine jr_if_eq (tgt := 52) dX1_span_17 rfl (fun c39 => ?_) (fun c39 => ?_)
        · have hf := so_t c39 hf
          exact hJ37 () hf
        · have hf := so_f c39 hf
          refine jr_iload dX1_span_20 rfl ?_
          refine jr_iconst dX1_span_22 ic_0 ?_
          refine jr_iconst dX1_span_23 ic_2 ?_
          refine jr_call (st := [.ref a0]) lk_X1_246 (wX1_isIn a5 (0 : Int32) (2 : Int32) S rfl) jk_r0 rfl rfl (so_le rfl) (so_le rfl) dX1_span_24 ?_
          refine jr_if_eq (tgt := 52) dX1_span_27 rfl (fun c40 => ?_) (fun c40 => ?_)
          · have hf := so_t c40 hf
            exact hJ37 () hf
          · have hf := so_f c40 hf
            refine jr_iload dX1_span_30 rfl ?_
            refine jr_iconst dX1_span_32 ic_0 ?_
            refine jr_aload_n dX1_span_33 rfl rfl jv_rr ?_
            refine jr_getR fl_X1_22_0 k_a0 (so_n26 rfl) dX1_span_34 ?_
            obtain ⟨p41, h42, hf⟩ := so_b hf
            obtain ⟨h42, k_p41⟩ := so_rk_s h42
            refine jr_rf h42 ?_
            refine jr_getI fl_X1_149_1 k_p41 (so_n26 rfl) dX1_span_37 ?_
            refine jr_iconst dX1_span_40 ic_1 ?_
            refine jr_isub dX1_span_41 ?_
            refine jr_call (st := [.ref a0]) lk_X1_246 (wX1_isIn a6 (0 : Int32) ((so_I S p41 6) - (1 : Int32)) S rfl) jk_r0 rfl rfl (so_le rfl) (so_le rfl) dX1_span_42 ?_
            refine jr_if_eq (tgt := 52) dX1_span_45 rfl (fun c43 => ?_) (fun c43 => ?_)
            · have hf := so_t c43 hf
              exact hJ37 () hf
            · have hf := so_f c43 hf
              refine jr_iconst dX1_span_48 ic_1 ?_
              refine jr_goto (tgt := 53) dX1_span_49 rfl ?_
              exact hJ2 (1 : Int32) hf

/- X0_span -/
abbrev kX0_span : jx_K := (cX0_span, 9, RX0, 1208, (Option.some Jvm.ClassFile.FieldType.int), "span", tableOf [(0, 18, 21, 13)])
def fX0_span (a0 : Nat) (a1 : Int32) (a2 : Int32) (a3 : Int32) (a4 : Int32) (a5 : Int32) (a6 : Int32) (a7 : Nat) (S : so_St) : Option (Int32 × so_St) :=
  so_b3 (fX1_span a0 a1 a2 a3 a4 a5 a6 S) (fun r1 S2 =>
  so_gd (so_in (0 : Int32) (so_l S2 a7)) fun _ =>
  so_let (so_sL S2 a7 (0 : Int32).toNatClampNeg r1.toInt64) fun S8 =>
  some ((0 : Int32), S8))
  (fun x3 S4 =>
  if x3 % 64 = 27 then
  (some ((1 : Int32), S4))
  else
  none)
set_option maxHeartbeats 4000000 in
set_option maxRecDepth 100000 in
theorem wX0_span {res : Int32} {S' : so_St}  (a0 : Nat) (a1 : Int32) (a2 : Int32) (a3 : Int32) (a4 : Int32) (a5 : Int32) (a6 : Int32) (a7 : Nat)  (S : so_St) (k_a0 : a0 % 64 ∈ [0]) (k_a7 : a7 % 64 ∈ [53]) (hf : fX0_span a0 a1 a2 a3 a4 a5 a6 a7 S = some (res, S')) : jx_Sp 1208 yX0_span (wsW_ yX0_span cX0_span 9 (Option.some Jvm.ClassFile.FieldType.int) [(0, 18, 21, 13)]) [.ref a0, .int a1, .int a2, .int a3, .int a4, .int a5, .int a6, .ref a7] S (.inl (some (.int res))) S' := by
  refine jx_ofW (by decide) (so_le rfl) ?_
  show jg_ (S, S', .inl (some (.int res))) kX0_span 0 [(0, .ref a0), (1, .int a1), (2, .int a2), (3, .int a3), (4, .int a4), (5, .int a5), (6, .int a6), (7, .ref a7)] [] S
  unfold fX0_span at hf
  refine jr_aload dX0_span_0 rfl jv_rr ?_
  refine jr_iconst dX0_span_2 ic_0 ?_
  refine jr_aload_n dX0_span_3 rfl rfl jv_rr ?_
  refine jr_iload_n dX0_span_4 rfl rfl ?_
  refine jr_iload_n dX0_span_5 rfl rfl ?_
  refine jr_iload_n dX0_span_6 rfl rfl ?_
  refine jr_iload dX0_span_7 rfl ?_
  refine jr_iload dX0_span_9 rfl ?_
  refine jr_iload dX0_span_11 rfl ?_
  rcases so_b3E hf with ⟨r1, S2, h5, hf⟩ | ⟨x3, S4, h5, hf⟩
  · refine jr_callM (st := [.int (0 : Int32), .ref a7]) lk_X0_100_0 (wX1_span a0 a1 a2 a3 a4 a5 a6 S k_a0 h5) k_a0 rfl rfl rfl (so_le rfl) (so_le rfl) dX0_span_13 ?_
    refine jr_i2l dX0_span_16 ?_
    obtain ⟨g7, hf⟩ := so_gdE hf
    refine jr_lastore (so_m1 k_a7) (so_inE g7) dX0_span_17 ?_
    refine so_let_e hf (fun S8 hf => ?_)
    refine jr_goto (tgt := 25) dX0_span_18 rfl ?_
    refine jr_iconst dX0_span_25 ic_0 ?_
    obtain ⟨rfl, rfl⟩ := so_e2 hf
    exact jr_iret rfl rfl dX0_span_26
  · refine jr_callMX (st := [.int (0 : Int32), .ref a7]) lk_X0_100_0 (wX1_span a0 a1 a2 a3 a4 a5 a6 S k_a0 h5) k_a0 rfl rfl rfl (so_le rfl) (so_le rfl) dX0_span_13 ?_
    by_cases c6 : x3 % 64 = 27
    · have hf := so_t c6 hf
      refine jr_catch (by rw [c6]; decide) (by rw [c6]; decide) [] ⟨0, 18, 21, 13⟩ [] rfl (fun _ h => by cases h) rfl (by decide) q863 (by rw [c6]; exact q181) ?_
      refine jr_astore (lv' := [(0, .ref a0), (1, .int a1), (2, .int a2), (3, .int a3), (4, .int a4), (5, .int a5), (6, .int a6), (7, .ref a7), (8, .ref x3)]) dX0_span_21 (so_le rfl) jv_rr rfl ?_
      refine jr_iconst dX0_span_23 ic_1 ?_
      obtain ⟨rfl, rfl⟩ := so_e2 hf
      exact jr_iret rfl rfl dX0_span_24
    · have hf := so_f c6 hf
      exact so_no hf

/- X1_init -/
abbrev kX1_init : jx_K := (cX1_init, 1, RX1, 6, (Option.none : Option Jvm.ClassFile.FieldType), "<init>", [])
def fX1_init (a0 : Nat) (S : so_St) : Option so_St :=
  so_let (so_new S 1 0 10) fun S1 =>
  (fX2_init (so_at S 1) S1).bind fun S4 =>
  so_let (so_sR S4 a0 0 (some (so_at S 1))) fun S5 =>
  so_b2 (fX1_custom S5) fun r7 S8 =>
  so_gd (decide (r7 % 64 ∈ [6, 7, 8, 9, 10, 11, 12, 20, 21])) fun _ =>
  so_let (so_sR S8 a0 1 (some r7)) fun S10 =>
  so_let (so_new S10 50 8 8) fun S11 =>
  so_let (so_sR S11 a0 2 (some (so_at S10 50))) fun S12 =>
  so_let (so_new S12 50 61 61) fun S13 =>
  so_let (so_sR S13 a0 3 (some (so_at S12 50))) fun S14 =>
  so_let (so_new S14 50 2 2) fun S15 =>
  so_let (so_sR S15 a0 4 (some (so_at S14 50))) fun S16 =>
  so_let (so_new S16 22 0 11) fun S17 =>
  (fX7_init (so_at S16 22) a0 S17).bind fun S20 =>
  so_let (so_sR S20 a0 5 (some (so_at S16 22))) fun S21 =>
  so_let (so_new S21 22 0 11) fun S22 =>
  (fX7_init (so_at S21 22) a0 S22).bind fun S25 =>
  so_let (so_sR S25 a0 6 (some (so_at S21 22))) fun S26 =>
  so_let (so_new S26 54 16 16) fun S27 =>
  so_let (so_sR S27 a0 7 (some (so_at S26 54))) fun S28 =>
  so_let (so_new S28 54 3 3) fun S29 =>
  so_let (so_sR S29 a0 8 (some (so_at S28 54))) fun S30 =>
  so_let (so_new S30 54 48 48) fun S31 =>
  so_let (so_sR S31 a0 9 (some (so_at S30 54))) fun S32 =>
  so_let (so_new S32 50 3 3) fun S33 =>
  so_let (so_sR S33 a0 10 (some (so_at S32 50))) fun S34 =>
  so_let (so_sI S34 a0 16 (-1 : Int32)) fun S35 =>
  so_let (so_new S35 51 600 600) fun S36 =>
  so_let (so_sR S36 a0 18 (some (so_at S35 51))) fun S37 =>
  so_let (so_new S37 50 6 6) fun S38 =>
  so_let (so_sR S38 a0 19 (some (so_at S37 50))) fun S39 =>
  so_let (so_new S39 50 6 6) fun S40 =>
  so_let (so_sR S40 a0 20 (some (so_at S39 50))) fun S41 =>
  so_let (so_new S41 50 54900 54900) fun S42 =>
  so_let (so_sR S42 a0 22 (some (so_at S41 50))) fun S43 =>
  so_let (so_new S43 50 100 100) fun S44 =>
  so_let (so_sR S44 a0 23 (some (so_at S43 50))) fun S45 =>
  so_let (so_new S45 52 900 900) fun S46 =>
  so_let (so_sR S46 a0 24 (some (so_at S45 52))) fun S47 =>
  (fX1_begins a0 S47).bind fun S50 =>
  some S50
set_option maxHeartbeats 4000000 in
set_option maxRecDepth 100000 in
theorem wX1_init {S' : so_St}  (a0 : Nat)  (S : so_St) (k_a0 : a0 % 64 ∈ [0]) (hf : fX1_init a0 S = some S') : jx_Sp 6 yX1_init (ws_ yX1_init cX1_init 1 (Option.none : Option Jvm.ClassFile.FieldType)) [.ref a0] S (.inl none) S' := by
  refine jx_of (plainFor_of_name (by decide)) (so_le rfl) ?_
  show jg_ (S, S', .inl none) kX1_init 0 [(0, .ref a0)] [] S
  unfold fX1_init at hf
  refine jr_aload_n dX1_init_0 rfl rfl jv_rr ?_
  refine jr_objInit (so_n63 k_a0 rfl) q154 q155 q156 (so_le rfl) (so_le rfl) dX1_init_1 ?_
  refine jr_aload_n dX1_init_4 rfl rfl jv_rr ?_
  refine jr_new nw_X1_19 dX1_init_5 ?_
  refine so_let_e hf (fun S1 hf => ?_)
  refine jr_dup dX1_init_8 rfl ?_
  obtain ⟨S4, h2, hf⟩ := so_b hf
  refine jr_call (st := [.ref (so_at S 1), .ref a0]) lk_X1_21 (wX2_init (so_at S 1) S1 (so_atk rfl) h2) (jk_r1 (so_n63 (so_atk rfl) rfl)) rfl rfl (so_le rfl) (so_le rfl) dX1_init_9 ?_
  refine jr_putR (r := (some (so_at S 1))) rfl fp_X1_22_0 k_a0 (so_n26 rfl) (fun h => by cases h) rfl dX1_init_12 ?_
  refine so_let_e hf (fun S5 hf => ?_)
  refine jr_aload_n dX1_init_15 rfl rfl jv_rr ?_
  obtain ⟨r7, S8, h6, hf⟩ := so_b2E hf
  obtain ⟨g9, hf⟩ := so_gdE hf
  refine jr_call (st := [.ref a0]) lk_X1_26 (wX1_custom S5 h6) jk_r0 rfl rfl (so_le rfl) (so_le rfl) dX1_init_16 ?_
  refine jr_putR (r := (some r7)) rfl fp_X1_30_0 k_a0 (so_n26 rfl) (fun h => by cases h) rfl dX1_init_19 ?_
  refine so_let_e hf (fun S10 hf => ?_)
  refine jr_aload_n dX1_init_22 rfl rfl jv_rr ?_
  refine jr_bipush dX1_init_23 bp_8 ?_
  refine jr_newi q251 (by decide) (by decide) dX1_init_25 ?_
  refine so_let_e hf (fun S11 hf => ?_)
  refine jr_putR (r := (some (so_at S10 50))) rfl fp_X1_34_0 k_a0 (so_n26 rfl) (fun _ => rfl) rfl dX1_init_27 ?_
  refine so_let_e hf (fun S12 hf => ?_)
  refine jr_aload_n dX1_init_30 rfl rfl jv_rr ?_
  refine jr_bipush dX1_init_31 bp_61 ?_
  refine jr_newi q251 (by decide) (by decide) dX1_init_33 ?_
  refine so_let_e hf (fun S13 hf => ?_)
  refine jr_putR (r := (some (so_at S12 50))) rfl fp_X1_38_0 k_a0 (so_n26 rfl) (fun _ => rfl) rfl dX1_init_35 ?_
  refine so_let_e hf (fun S14 hf => ?_)
  refine jr_aload_n dX1_init_38 rfl rfl jv_rr ?_
  refine jr_iconst dX1_init_39 ic_2 ?_
  refine jr_newi q251 (by decide) (by decide) dX1_init_40 ?_
  refine so_let_e hf (fun S15 hf => ?_)
  refine jr_putR (r := (some (so_at S14 50))) rfl fp_X1_41_0 k_a0 (so_n26 rfl) (fun _ => rfl) rfl dX1_init_42 ?_
  refine so_let_e hf (fun S16 hf => ?_)
  refine jr_aload_n dX1_init_45 rfl rfl jv_rr ?_
  refine jr_new nw_X1_44 dX1_init_46 ?_
  refine so_let_e hf (fun S17 hf => ?_)
  refine jr_dup dX1_init_49 rfl ?_
  refine jr_aload_n dX1_init_50 rfl rfl jv_rr ?_
  obtain ⟨S20, h18, hf⟩ := so_b hf
  refine jr_call (st := [.ref (so_at S16 22), .ref a0]) lk_X1_46 (wX7_init (so_at S16 22) a0 S17 (so_atk rfl) k_a0 h18) (jk_r1 (so_n63 (so_atk rfl) rfl)) rfl rfl (so_le rfl) (so_le rfl) dX1_init_51 ?_
  refine jr_putR (r := (some (so_at S16 22))) rfl fp_X1_49_0 k_a0 (so_n26 rfl) (fun _ => rfl) rfl dX1_init_54 ?_
  refine so_let_e hf (fun S21 hf => ?_)
  refine jr_aload_n dX1_init_57 rfl rfl jv_rr ?_
  refine jr_new nw_X1_44 dX1_init_58 ?_
  refine so_let_e hf (fun S22 hf => ?_)
  refine jr_dup dX1_init_61 rfl ?_
  refine jr_aload_n dX1_init_62 rfl rfl jv_rr ?_
  obtain ⟨S25, h23, hf⟩ := so_b hf
  refine jr_call (st := [.ref (so_at S21 22), .ref a0]) lk_X1_46 (wX7_init (so_at S21 22) a0 S22 (so_atk rfl) k_a0 h23) (jk_r1 (so_n63 (so_atk rfl) rfl)) rfl rfl (so_le rfl) (so_le rfl) dX1_init_63 ?_
  refine jr_putR (r := (some (so_at S21 22))) rfl fp_X1_53_0 k_a0 (so_n26 rfl) (fun _ => rfl) rfl dX1_init_66 ?_
  refine so_let_e hf (fun S26 hf => ?_)
  refine jr_aload_n dX1_init_69 rfl rfl jv_rr ?_
  refine jr_bipush dX1_init_70 bp_16 ?_
  refine jr_newT q589 (by decide) (by decide) dX1_init_72 ?_
  refine so_let_e hf (fun S27 hf => ?_)
  refine jr_putR (r := (some (so_at S26 54))) rfl fp_X1_56_0 k_a0 (so_n26 rfl) (fun _ => rfl) rfl dX1_init_75 ?_
  refine so_let_e hf (fun S28 hf => ?_)
  refine jr_aload_n dX1_init_78 rfl rfl jv_rr ?_
  refine jr_iconst dX1_init_79 ic_3 ?_
  refine jr_newT q589 (by decide) (by decide) dX1_init_80 ?_
  refine so_let_e hf (fun S29 hf => ?_)
  refine jr_putR (r := (some (so_at S28 54))) rfl fp_X1_60_0 k_a0 (so_n26 rfl) (fun _ => rfl) rfl dX1_init_83 ?_
  refine so_let_e hf (fun S30 hf => ?_)
  refine jr_aload_n dX1_init_86 rfl rfl jv_rr ?_
  refine jr_bipush dX1_init_87 bp_48 ?_
  refine jr_newT q589 (by decide) (by decide) dX1_init_89 ?_
  refine so_let_e hf (fun S31 hf => ?_)
  refine jr_putR (r := (some (so_at S30 54))) rfl fp_X1_63_0 k_a0 (so_n26 rfl) (fun _ => rfl) rfl dX1_init_92 ?_
  refine so_let_e hf (fun S32 hf => ?_)
  refine jr_aload_n dX1_init_95 rfl rfl jv_rr ?_
  refine jr_iconst dX1_init_96 ic_3 ?_
  refine jr_newi q251 (by decide) (by decide) dX1_init_97 ?_
  refine so_let_e hf (fun S33 hf => ?_)
  refine jr_putR (r := (some (so_at S32 50))) rfl fp_X1_66_0 k_a0 (so_n26 rfl) (fun _ => rfl) rfl dX1_init_99 ?_
  refine so_let_e hf (fun S34 hf => ?_)
  refine jr_aload_n dX1_init_102 rfl rfl jv_rr ?_
  refine jr_iconst dX1_init_103 ic_m1 ?_
  refine jr_putI fp_X1_69_0 k_a0 (so_n26 rfl) (fun h => by cases h) rfl rfl dX1_init_104 ?_
  refine so_let_e hf (fun S35 hf => ?_)
  refine jr_aload_n dX1_init_107 rfl rfl jv_rr ?_
  refine jr_sipush dX1_init_108 sp_600 ?_
  refine jr_newb q252 (by decide) (by decide) dX1_init_111 ?_
  refine so_let_e hf (fun S36 hf => ?_)
  refine jr_putR (r := (some (so_at S35 51))) rfl fp_X1_73_0 k_a0 (so_n26 rfl) (fun _ => rfl) rfl dX1_init_113 ?_
  refine so_let_e hf (fun S37 hf => ?_)
  refine jr_aload_n dX1_init_116 rfl rfl jv_rr ?_
  refine jr_bipush dX1_init_117 bp_6 ?_
  refine jr_newi q251 (by decide) (by decide) dX1_init_119 ?_
  refine so_let_e hf (fun S38 hf => ?_)
  refine jr_putR (r := (some (so_at S37 50))) rfl fp_X1_77_0 k_a0 (so_n26 rfl) (fun _ => rfl) rfl dX1_init_121 ?_
  refine so_let_e hf (fun S39 hf => ?_)
  refine jr_aload_n dX1_init_124 rfl rfl jv_rr ?_
  refine jr_bipush dX1_init_125 bp_6 ?_
  refine jr_newi q251 (by decide) (by decide) dX1_init_127 ?_
  refine so_let_e hf (fun S40 hf => ?_)
  refine jr_putR (r := (some (so_at S39 50))) rfl fp_X1_80_0 k_a0 (so_n26 rfl) (fun _ => rfl) rfl dX1_init_129 ?_
  refine so_let_e hf (fun S41 hf => ?_)
  refine jr_aload_n dX1_init_132 rfl rfl jv_rr ?_
  refine jr_ldcI q640 dX1_init_133 ?_
  refine jr_newi q251 (by decide) (by decide) dX1_init_135 ?_
  refine so_let_e hf (fun S42 hf => ?_)
  refine jr_putR (r := (some (so_at S41 50))) rfl fp_X1_84_0 k_a0 (so_n26 rfl) (fun _ => rfl) rfl dX1_init_137 ?_
  refine so_let_e hf (fun S43 hf => ?_)
  refine jr_aload_n dX1_init_140 rfl rfl jv_rr ?_
  refine jr_bipush dX1_init_141 bp_100 ?_
  refine jr_newi q251 (by decide) (by decide) dX1_init_143 ?_
  refine so_let_e hf (fun S44 hf => ?_)
  refine jr_putR (r := (some (so_at S43 50))) rfl fp_X1_87_0 k_a0 (so_n26 rfl) (fun _ => rfl) rfl dX1_init_145 ?_
  refine so_let_e hf (fun S45 hf => ?_)
  refine jr_aload_n dX1_init_148 rfl rfl jv_rr ?_
  refine jr_sipush dX1_init_149 sp_900 ?_
  refine jr_newz q729 (by decide) (by decide) dX1_init_152 ?_
  refine so_let_e hf (fun S46 hf => ?_)
  refine jr_putR (r := (some (so_at S45 52))) rfl fp_X1_90_0 k_a0 (so_n26 rfl) (fun _ => rfl) rfl dX1_init_154 ?_
  refine so_let_e hf (fun S47 hf => ?_)
  refine jr_aload_n dX1_init_157 rfl rfl jv_rr ?_
  obtain ⟨S50, h48, hf⟩ := so_b hf
  refine jr_callM (st := []) lk_X1_94_0 (wX1_begins a0 S47 k_a0 h48) k_a0 rfl rfl rfl (so_le rfl) (so_le rfl) dX1_init_158 ?_
  obtain rfl := so_e1 hf
  exact jr_vret rfl dX1_init_161

/- X1_put -/
abbrev kX1_put : jx_K := (cX1_put, 3, RX1, 0, (Option.none : Option Jvm.ClassFile.FieldType), "put", [])
def LX1_put_3 (f0 : Nat) (f1 : Int32) : Nat → Int32 → so_St → Option so_St
  | 0, _, _ => none
  | n + 1, v1, S2 =>
    if v1 < (0 : Int32) then
    (some S2)
    else
    ((so_rk (so_R S2 f0 18) [51]).bind fun p4 =>
    so_gd (so_in (so_I S2 f0 15) (so_l S2 p4)) fun _ =>
    so_gd (so_big p4) fun _ =>
    so_let (so_sI S2 p4 (so_I S2 f0 15).toNatClampNeg ((f1 >>> (v1 &&& 31)).toInt8.toInt32).toInt8.toInt32) fun S8 =>
    so_let (so_sI S8 f0 15 ((so_I S8 f0 15) + (1 : Int32))) fun S9 =>
    LX1_put_3 f0 f1 n (v1 + (-8 : Int32)) S9)
set_option maxHeartbeats 4000000 in
set_option maxRecDepth 100000 in
theorem wX1_put_3 {S' : so_St} {S0 : so_St}   (f0 : Nat) (f1 : Int32)   (k_f0 : f0 % 64 ∈ [0]) : ∀ (n : Nat) (v1 : Int32) (S2 : so_St), LX1_put_3 f0 f1 n v1 S2 = some S' → jg_ (S0, S', .inl none) kX1_put 3 [(0, .ref f0), (1, .int f1), (2, .int v1)] [] S2 := by
  intro n
  induction n with
  | zero =>
    intro v1 S2 hf
    exact so_no hf
  | succ n ih =>
    intro v1 S2 hf
    rw [LX1_put_3] at hf
    refine jr_iload_n dX1_put_3 rfl rfl ?_
    refine jr_if_lt (tgt := 36) dX1_put_4 rfl (fun c3 => ?_) (fun c3 => ?_)
    · have hf := so_t c3 hf
      obtain rfl := so_e1 hf
      exact jr_vret rfl dX1_put_36
    · have hf := so_f c3 hf
      refine jr_aload_n dX1_put_7 rfl rfl jv_rr ?_
      refine jr_getR fl_X1_73_0 k_f0 (so_n26 rfl) dX1_put_8 ?_
      obtain ⟨p4, h5, hf⟩ := so_b hf
      obtain ⟨h5, k_p4⟩ := so_rk_s h5
      refine jr_rf h5 ?_
      refine jr_aload_n dX1_put_11 rfl rfl jv_rr ?_
      refine jr_getI fl_X1_158_0 k_f0 (so_n26 rfl) dX1_put_12 ?_
      refine jr_iload_n dX1_put_15 rfl rfl ?_
      refine jr_iload_n dX1_put_16 rfl rfl ?_
      refine jr_ishr dX1_put_17 ?_
      refine jr_i2b dX1_put_18 ?_
      obtain ⟨g6, hf⟩ := so_gdE hf
      obtain ⟨g7, hf⟩ := so_gdE hf
      refine jr_bastore (so_m1 k_p4) (so_bigE g7) (so_inE g6) dX1_put_19 ?_
      refine so_let_e hf (fun S8 hf => ?_)
      refine jr_aload_n dX1_put_20 rfl rfl jv_rr ?_
      refine jr_dup dX1_put_21 rfl ?_
      refine jr_getI fl_X1_158_0 k_f0 (so_n26 rfl) dX1_put_22 ?_
      refine jr_iconst dX1_put_25 ic_1 ?_
      refine jr_iadd dX1_put_26 ?_
      refine jr_putI fp_X1_158_0 k_f0 (so_n26 rfl) (fun h => by cases h) rfl rfl dX1_put_27 ?_
      refine so_let_e hf (fun S9 hf => ?_)
      refine jr_iinc (v := v1 + (-8 : Int32)) (lv' := [(0, .ref f0), (1, .int f1), (2, .int (v1 + (-8 : Int32)))]) dX1_put_30 rfl rfl (so_le rfl) rfl ?_
      refine jr_goto (tgt := 3) dX1_put_33 rfl ?_
      exact ih (v1 + (-8 : Int32)) S9 hf
def fX1_put (a0 : Nat) (a1 : Int32) (S : so_St) : Option so_St :=
  LX1_put_3 a0 a1 so_N (24 : Int32) S
set_option maxHeartbeats 4000000 in
set_option maxRecDepth 100000 in
theorem wX1_put {S' : so_St}  (a0 : Nat) (a1 : Int32)  (S : so_St) (k_a0 : a0 % 64 ∈ [0]) (hf : fX1_put a0 a1 S = some S') : jx_Sp 0 yX1_put (ws_ yX1_put cX1_put 3 (Option.none : Option Jvm.ClassFile.FieldType)) [.ref a0, .int a1] S (.inl none) S' := by
  refine jx_of (plainFor_of_name (by decide)) (so_le rfl) ?_
  show jg_ (S, S', .inl none) kX1_put 0 [(0, .ref a0), (1, .int a1)] [] S
  unfold fX1_put at hf
  refine jr_bipush dX1_put_0 bp_24 ?_
  refine jr_istore_n (lv' := [(0, .ref a0), (1, .int a1), (2, .int (24 : Int32))]) dX1_put_2 rfl (so_le rfl) rfl ?_
  refine wX1_put_3 a0 a1 k_a0 so_N (24 : Int32) S hf

/- X1_feed -/
abbrev kX1_feed : jx_K := (cX1_feed, 6, RX1, 1, (Option.some Jvm.ClassFile.FieldType.int), "feed", [])
def fX1_feed (a0 : Nat) (a1 : Int32) (a2 : Int32) (a3 : Int32) (a4 : Int32) (a5 : Int32) (S : so_St) : Option (Int32 × so_St) :=
  if ((so_I S a0 15) + (20 : Int32)) ≤ (600 : Int32) then
  ((fX1_put a0 a1 S).bind fun S4 =>
  (fX1_put a0 a2 S4).bind fun S7 =>
  (fX1_put a0 a3 S7).bind fun S10 =>
  (fX1_put a0 a4 S10).bind fun S13 =>
  (fX1_put a0 a5 S13).bind fun S16 =>
  some (so_I S16 a0 15, S16))
  else
  (some ((-1 : Int32), S))
set_option maxHeartbeats 4000000 in
set_option maxRecDepth 100000 in
theorem wX1_feed {res : Int32} {S' : so_St}  (a0 : Nat) (a1 : Int32) (a2 : Int32) (a3 : Int32) (a4 : Int32) (a5 : Int32)  (S : so_St) (k_a0 : a0 % 64 ∈ [0]) (hf : fX1_feed a0 a1 a2 a3 a4 a5 S = some (res, S')) : jx_Sp 1 yX1_feed (ws_ yX1_feed cX1_feed 6 (Option.some Jvm.ClassFile.FieldType.int)) [.ref a0, .int a1, .int a2, .int a3, .int a4, .int a5] S (.inl (some (.int res))) S' := by
  refine jx_of (plainFor_of_name (by decide)) (so_le rfl) ?_
  show jg_ (S, S', .inl (some (.int res))) kX1_feed 0 [(0, .ref a0), (1, .int a1), (2, .int a2), (3, .int a3), (4, .int a4), (5, .int a5)] [] S
  unfold fX1_feed at hf
  refine jr_aload_n dX1_feed_0 rfl rfl jv_rr ?_
  refine jr_getI fl_X1_158_0 k_a0 (so_n26 rfl) dX1_feed_1 ?_
  refine jr_bipush dX1_feed_4 bp_20 ?_
  refine jr_iadd dX1_feed_6 ?_
  refine jr_sipush dX1_feed_7 sp_600 ?_
  refine jr_icmp_le (tgt := 15) dX1_feed_10 rfl (fun c1 => ?_) (fun c1 => ?_)
  · have hf := so_t c1 hf
    refine jr_aload_n dX1_feed_15 rfl rfl jv_rr ?_
    refine jr_iload_n dX1_feed_16 rfl rfl ?_
    obtain ⟨S4, h2, hf⟩ := so_b hf
    refine jr_callM (st := []) lk_X1_161_0 (wX1_put a0 a1 S k_a0 h2) k_a0 rfl rfl rfl (so_le rfl) (so_le rfl) dX1_feed_17 ?_
    refine jr_aload_n dX1_feed_20 rfl rfl jv_rr ?_
    refine jr_iload_n dX1_feed_21 rfl rfl ?_
    obtain ⟨S7, h5, hf⟩ := so_b hf
    refine jr_callM (st := []) lk_X1_161_0 (wX1_put a0 a2 S4 k_a0 h5) k_a0 rfl rfl rfl (so_le rfl) (so_le rfl) dX1_feed_22 ?_
    refine jr_aload_n dX1_feed_25 rfl rfl jv_rr ?_
    refine jr_iload_n dX1_feed_26 rfl rfl ?_
    obtain ⟨S10, h8, hf⟩ := so_b hf
    refine jr_callM (st := []) lk_X1_161_0 (wX1_put a0 a3 S7 k_a0 h8) k_a0 rfl rfl rfl (so_le rfl) (so_le rfl) dX1_feed_27 ?_
    refine jr_aload_n dX1_feed_30 rfl rfl jv_rr ?_
    refine jr_iload dX1_feed_31 rfl ?_
    obtain ⟨S13, h11, hf⟩ := so_b hf
    refine jr_callM (st := []) lk_X1_161_0 (wX1_put a0 a4 S10 k_a0 h11) k_a0 rfl rfl rfl (so_le rfl) (so_le rfl) dX1_feed_33 ?_
    refine jr_aload_n dX1_feed_36 rfl rfl jv_rr ?_
    refine jr_iload dX1_feed_37 rfl ?_
    obtain ⟨S16, h14, hf⟩ := so_b hf
    refine jr_callM (st := []) lk_X1_161_0 (wX1_put a0 a5 S13 k_a0 h14) k_a0 rfl rfl rfl (so_le rfl) (so_le rfl) dX1_feed_39 ?_
    refine jr_aload_n dX1_feed_42 rfl rfl jv_rr ?_
    refine jr_getI fl_X1_158_0 k_a0 (so_n26 rfl) dX1_feed_43 ?_
    obtain ⟨rfl, rfl⟩ := so_e2 hf
    exact jr_iret rfl rfl dX1_feed_46
  · have hf := so_f c1 hf
    refine jr_iconst dX1_feed_13 ic_m1 ?_
    obtain ⟨rfl, rfl⟩ := so_e2 hf
    exact jr_iret rfl rfl dX1_feed_14

/- X1_fault -/
abbrev kX1_fault : jx_K := (cX1_fault, 1, RX1, 0, (Option.some Jvm.ClassFile.FieldType.int), "fault", [])
def fX1_fault (a0 : Nat) (S : so_St) : Option Int32 :=
  some (so_I S a0 16)
set_option maxHeartbeats 4000000 in
set_option maxRecDepth 100000 in
theorem wX1_fault {res : Int32}  (a0 : Nat)  (S : so_St) (k_a0 : a0 % 64 ∈ [0]) (hf : fX1_fault a0 S = some res) : jx_Sp 0 yX1_fault (ws_ yX1_fault cX1_fault 1 (Option.some Jvm.ClassFile.FieldType.int)) [.ref a0] S (.inl (some (.int res))) S := by
  refine jx_of (plainFor_of_name (by decide)) (so_le rfl) ?_
  show jg_ (S, S, .inl (some (.int res))) kX1_fault 0 [(0, .ref a0)] [] S
  unfold fX1_fault at hf
  refine jr_aload_n dX1_fault_0 rfl rfl jv_rr ?_
  refine jr_getI fl_X1_69_0 k_a0 (so_n26 rfl) dX1_fault_1 ?_
  obtain rfl := so_e1 hf
  exact jr_iret rfl rfl dX1_fault_4

/- X1_undo -/
abbrev kX1_undo : jx_K := (cX1_undo, 1, RX1, 2, (Option.some Jvm.ClassFile.FieldType.int), "undo", [])
def fX1_undo (a0 : Nat) (S : so_St) : Option (Int32 × so_St) :=
  if (so_I S a0 11) = (0 : Int32) then
  (some ((-1 : Int32), S))
  else
  (so_let (so_sI S a0 11 ((so_I S a0 11) - (1 : Int32))) fun S2 =>
  (so_rk (so_R S2 a0 5) [22]).bind fun p3 =>
  (so_rk (so_R S2 a0 7) [54]).bind fun p5 =>
  so_gd (so_in (so_I S2 a0 11) (so_l S2 p5)) fun _ =>
  (so_rk (so_R S2 p5 (so_I S2 a0 11).toNatClampNeg) [22]).bind fun p8 =>
  so_b2 (fX7_becomes p3 p8 S2) fun r11 S12 =>
  so_gd (decide (r11 % 64 ∈ [22])) fun _ =>
  so_let (so_sI S12 a0 12 (0 : Int32)) fun S14 =>
  some (so_I S14 a0 11, S14))
set_option maxHeartbeats 4000000 in
set_option maxRecDepth 100000 in
theorem wX1_undo {res : Int32} {S' : so_St}  (a0 : Nat)  (S : so_St) (k_a0 : a0 % 64 ∈ [0]) (hf : fX1_undo a0 S = some (res, S')) : jx_Sp 2 yX1_undo (ws_ yX1_undo cX1_undo 1 (Option.some Jvm.ClassFile.FieldType.int)) [.ref a0] S (.inl (some (.int res))) S' := by
  refine jx_of (plainFor_of_name (by decide)) (so_le rfl) ?_
  show jg_ (S, S', .inl (some (.int res))) kX1_undo 0 [(0, .ref a0)] [] S
  unfold fX1_undo at hf
  refine jr_aload_n dX1_undo_0 rfl rfl jv_rr ?_
  refine jr_getI fl_X1_100_0 k_a0 (so_n26 rfl) dX1_undo_1 ?_
  refine jr_if_ne (tgt := 9) dX1_undo_4 rfl (fun c1 => ?_) (fun c1 => ?_)
  · have hf := so_f c1 hf
    refine jr_aload_n dX1_undo_9 rfl rfl jv_rr ?_
    refine jr_dup dX1_undo_10 rfl ?_
    refine jr_getI fl_X1_100_0 k_a0 (so_n26 rfl) dX1_undo_11 ?_
    refine jr_iconst dX1_undo_14 ic_1 ?_
    refine jr_isub dX1_undo_15 ?_
    refine jr_putI fp_X1_100_0 k_a0 (so_n26 rfl) (fun h => by cases h) rfl rfl dX1_undo_16 ?_
    refine so_let_e hf (fun S2 hf => ?_)
    refine jr_aload_n dX1_undo_19 rfl rfl jv_rr ?_
    refine jr_getR fl_X1_49_0 k_a0 (so_n26 rfl) dX1_undo_20 ?_
    obtain ⟨p3, h4, hf⟩ := so_b hf
    obtain ⟨h4, k_p3⟩ := so_rk_s h4
    refine jr_rf h4 ?_
    refine jr_aload_n dX1_undo_23 rfl rfl jv_rr ?_
    refine jr_getR fl_X1_56_0 k_a0 (so_n26 rfl) dX1_undo_24 ?_
    obtain ⟨p5, h6, hf⟩ := so_b hf
    obtain ⟨h6, k_p5⟩ := so_rk_s h6
    refine jr_rf h6 ?_
    refine jr_aload_n dX1_undo_27 rfl rfl jv_rr ?_
    refine jr_getI fl_X1_100_0 k_a0 (so_n26 rfl) dX1_undo_28 ?_
    obtain ⟨g7, hf⟩ := so_gdE hf
    refine jr_aaload (Or.inl (so_m1 k_p5)) (so_inE g7) dX1_undo_31 ?_
    obtain ⟨p8, h9, hf⟩ := so_b hf
    obtain ⟨h9, k_p8⟩ := so_rk_s h9
    refine jr_rf h9 ?_
    obtain ⟨r11, S12, h10, hf⟩ := so_b2E hf
    obtain ⟨g13, hf⟩ := so_gdE hf
    refine jr_callM (st := []) lk_X1_235_22 (wX7_becomes p3 p8 S2 k_p3 k_p8 h10) k_p3 rfl rfl rfl (so_le rfl) (so_le rfl) dX1_undo_32 ?_
    refine jr_pop dX1_undo_35 rfl ?_
    refine jr_aload_n dX1_undo_36 rfl rfl jv_rr ?_
    refine jr_iconst dX1_undo_37 ic_0 ?_
    refine jr_putI fp_X1_103_0 k_a0 (so_n26 rfl) (fun h => by cases h) rfl rfl dX1_undo_38 ?_
    refine so_let_e hf (fun S14 hf => ?_)
    refine jr_aload_n dX1_undo_41 rfl rfl jv_rr ?_
    refine jr_getI fl_X1_100_0 k_a0 (so_n26 rfl) dX1_undo_42 ?_
    obtain ⟨rfl, rfl⟩ := so_e2 hf
    exact jr_iret rfl rfl dX1_undo_45
  · have hf := so_t c1 hf
    refine jr_iconst dX1_undo_7 ic_m1 ?_
    obtain ⟨rfl, rfl⟩ := so_e2 hf
    exact jr_iret rfl rfl dX1_undo_8

/- X1_changed -/
abbrev kX1_changed : jx_K := (cX1_changed, 1, RX1, 3, (Option.some Jvm.ClassFile.FieldType.int), "changed", [])
def fX1_changed (a0 : Nat) (S : so_St) : Option Int32 :=
  (so_rk (so_R S a0 5) [22]).bind fun p1 =>
  (fX7_changed p1 S).bind fun r4 =>
  some r4
set_option maxHeartbeats 4000000 in
set_option maxRecDepth 100000 in
theorem wX1_changed {res : Int32}  (a0 : Nat)  (S : so_St) (k_a0 : a0 % 64 ∈ [0]) (hf : fX1_changed a0 S = some res) : jx_Sp 3 yX1_changed (ws_ yX1_changed cX1_changed 1 (Option.some Jvm.ClassFile.FieldType.int)) [.ref a0] S (.inl (some (.int res))) S := by
  refine jx_of (plainFor_of_name (by decide)) (so_le rfl) ?_
  show jg_ (S, S, .inl (some (.int res))) kX1_changed 0 [(0, .ref a0)] [] S
  unfold fX1_changed at hf
  refine jr_aload_n dX1_changed_0 rfl rfl jv_rr ?_
  refine jr_getR fl_X1_49_0 k_a0 (so_n26 rfl) dX1_changed_1 ?_
  obtain ⟨p1, h2, hf⟩ := so_b hf
  obtain ⟨h2, k_p1⟩ := so_rk_s h2
  refine jr_rf h2 ?_
  obtain ⟨r4, h3, hf⟩ := so_b hf
  refine jr_callM (st := []) lk_X1_342_22 (wX7_changed p1 S k_p1 h3) k_p1 rfl rfl rfl (so_le rfl) (so_le rfl) dX1_changed_4 ?_
  obtain rfl := so_e1 hf
  exact jr_iret rfl rfl dX1_changed_7

/- X1_empty -/
abbrev kX1_empty : jx_K := (cX1_empty, 3, RX1, 3, (Option.some Jvm.ClassFile.FieldType.int), "empty", [])
def LX1_empty_4 (f0 : Nat) (S : so_St) : Nat → Int32 → Int32 → Option Int32
  | 0, _, _ => none
  | n + 1, v1, v2 =>
    (so_rk (so_R S f0 0) [1]).bind fun p3 =>
    if (so_I S p3 6) ≤ v2 then
    (some v1)
    else
    ((so_rk (so_R S f0 5) [22]).bind fun p6 =>
    (fX7_in p6 v2 S).bind fun r9 =>
    so_j (κ := Int32 → Option Int32) (ρ := Option Int32) (fun (v10 : Int32) =>
    LX1_empty_4 f0 S n (v1 ||| v10) (v2 + (1 : Int32)))
    (fun J11 =>
    if r9 = (-1 : Int32) then
    (J11 ((1 : Int32) <<< (v2 &&& 31)))
    else
    (J11 (0 : Int32))))
set_option maxHeartbeats 4000000 in
set_option maxRecDepth 100000 in
theorem wX1_empty_4 {res : Int32}   (f0 : Nat)  (S : so_St) (k_f0 : f0 % 64 ∈ [0]) : ∀ (n : Nat) (v1 : Int32) (v2 : Int32), LX1_empty_4 f0 S n v1 v2 = some res → jg_ (S, S, .inl (some (.int res))) kX1_empty 4 [(0, .ref f0), (1, .int v1), (2, .int v2)] [] S := by
  intro n
  induction n with
  | zero =>
    intro v1 v2 hf
    exact so_no hf
  | succ n ih =>
    intro v1 v2 hf
    rw [LX1_empty_4] at hf
    refine jr_iload_n dX1_empty_4 rfl rfl ?_
    refine jr_aload_n dX1_empty_5 rfl rfl jv_rr ?_
    refine jr_getR fl_X1_22_0 k_f0 (so_n26 rfl) dX1_empty_6 ?_
    obtain ⟨p3, h4, hf⟩ := so_b hf
    obtain ⟨h4, k_p3⟩ := so_rk_s h4
    refine jr_rf h4 ?_
    refine jr_getI fl_X1_149_1 k_p3 (so_n26 rfl) dX1_empty_9 ?_
    refine jr_icmp_ge (tgt := 43) dX1_empty_12 rfl (fun c5 => ?_) (fun c5 => ?_)
    · have hf := so_t c5 hf
      refine jr_iload_n dX1_empty_43 rfl rfl ?_
      obtain rfl := so_e1 hf
      exact jr_iret rfl rfl dX1_empty_44
    · have hf := so_f c5 hf
      refine jr_iload_n dX1_empty_15 rfl rfl ?_
      refine jr_aload_n dX1_empty_16 rfl rfl jv_rr ?_
      refine jr_getR fl_X1_49_0 k_f0 (so_n26 rfl) dX1_empty_17 ?_
      obtain ⟨p6, h7, hf⟩ := so_b hf
      obtain ⟨h7, k_p6⟩ := so_rk_s h7
      refine jr_rf h7 ?_
      refine jr_iload_n dX1_empty_20 rfl rfl ?_
      obtain ⟨r9, h8, hf⟩ := so_b hf
      refine jr_callM (st := [.int v1]) lk_X1_280_22 (wX7_in p6 v2 S k_p6 h8) k_p6 rfl rfl rfl (so_le rfl) (so_le rfl) dX1_empty_21 ?_
      refine jr_iconst dX1_empty_24 ic_m1 ?_
      refine so_jE hf (fun J => ∀ (v10 : Int32), J v10 = some res → jg_ (S, S, .inl (some (.int res))) kX1_empty 35 [(0, .ref f0), (2, .int v2)] [.int v10, .int v1] S) (fun v10 hf => ?_) (fun J11 hJ11 hf => ?_)
      · refine jr_ior dX1_empty_35 ?_
        refine jr_istore_n (lv' := [(0, .ref f0), (1, .int (v1 ||| v10)), (2, .int v2)]) dX1_empty_36 rfl (so_le rfl) rfl ?_
        refine jr_iinc (v := v2 + (1 : Int32)) (lv' := [(0, .ref f0), (1, .int (v1 ||| v10)), (2, .int (v2 + (1 : Int32)))]) dX1_empty_37 rfl rfl (so_le rfl) rfl ?_
        refine jr_goto (tgt := 4) dX1_empty_40 rfl ?_
        exact ih (v1 ||| v10) (v2 + (1 : Int32)) hf
      · refine jr_icmp_ne (tgt := 34) dX1_empty_25 rfl (fun c12 => ?_) (fun c12 => ?_)
        · have hf := so_f c12 hf
          refine jr_iconst dX1_empty_34 ic_0 ?_
          refine jr_sub [0, 2] rfl ?_
          exact hJ11 (0 : Int32) hf
        · have hf := so_t c12 hf
          refine jr_iconst dX1_empty_28 ic_1 ?_
          refine jr_iload_n dX1_empty_29 rfl rfl ?_
          refine jr_ishl dX1_empty_30 ?_
          refine jr_goto (tgt := 35) dX1_empty_31 rfl ?_
          refine jr_sub [0, 2] rfl ?_
          exact hJ11 ((1 : Int32) <<< (v2 &&& 31)) hf
def fX1_empty (a0 : Nat) (S : so_St) : Option Int32 :=
  LX1_empty_4 a0 S so_N (0 : Int32) (0 : Int32)
set_option maxHeartbeats 4000000 in
set_option maxRecDepth 100000 in
theorem wX1_empty {res : Int32}  (a0 : Nat)  (S : so_St) (k_a0 : a0 % 64 ∈ [0]) (hf : fX1_empty a0 S = some res) : jx_Sp 3 yX1_empty (ws_ yX1_empty cX1_empty 3 (Option.some Jvm.ClassFile.FieldType.int)) [.ref a0] S (.inl (some (.int res))) S := by
  refine jx_of (plainFor_of_name (by decide)) (so_le rfl) ?_
  show jg_ (S, S, .inl (some (.int res))) kX1_empty 0 [(0, .ref a0)] [] S
  unfold fX1_empty at hf
  refine jr_iconst dX1_empty_0 ic_0 ?_
  refine jr_istore_n (lv' := [(0, .ref a0), (1, .int (0 : Int32))]) dX1_empty_1 rfl (so_le rfl) rfl ?_
  refine jr_iconst dX1_empty_2 ic_0 ?_
  refine jr_istore_n (lv' := [(0, .ref a0), (1, .int (0 : Int32)), (2, .int (0 : Int32))]) dX1_empty_3 rfl (so_le rfl) rfl ?_
  refine wX1_empty_4 a0 S k_a0 so_N (0 : Int32) (0 : Int32) hf

/- X1_places -/
abbrev kX1_places : jx_K := (cX1_places, 1, RX1, 62, (Option.some Jvm.ClassFile.FieldType.int), "places", [])
def fX1_places (a0 : Nat) (S : so_St) : Option (Int32 × so_St) :=
  (fX1_findPlaces a0 S).bind fun S3 =>
  some (so_I S3 a0 21, S3)
set_option maxHeartbeats 4000000 in
set_option maxRecDepth 100000 in
theorem wX1_places {res : Int32} {S' : so_St}  (a0 : Nat)  (S : so_St) (k_a0 : a0 % 64 ∈ [0]) (hf : fX1_places a0 S = some (res, S')) : jx_Sp 62 yX1_places (ws_ yX1_places cX1_places 1 (Option.some Jvm.ClassFile.FieldType.int)) [.ref a0] S (.inl (some (.int res))) S' := by
  refine jx_of (plainFor_of_name (by decide)) (so_le rfl) ?_
  show jg_ (S, S', .inl (some (.int res))) kX1_places 0 [(0, .ref a0)] [] S
  unfold fX1_places at hf
  refine jr_aload_n dX1_places_0 rfl rfl jv_rr ?_
  obtain ⟨S3, h1, hf⟩ := so_b hf
  refine jr_callM (st := []) lk_X1_361_0 (wX1_findPlaces a0 S k_a0 h1) k_a0 rfl rfl rfl (so_le rfl) (so_le rfl) dX1_places_1 ?_
  refine jr_aload_n dX1_places_4 rfl rfl jv_rr ?_
  refine jr_getI fl_X1_352_0 k_a0 (so_n26 rfl) dX1_places_5 ?_
  obtain ⟨rfl, rfl⟩ := so_e2 hf
  exact jr_iret rfl rfl dX1_places_8

/- X1_isAlone -/
abbrev kX1_isAlone : jx_K := (cX1_isAlone, 3, RX1, 1, (Option.some Jvm.ClassFile.FieldType.boolean), "isAlone", [])
def LX1_isAlone_2 (f0 : Nat) (f1 : Int32) (S : so_St) : Nat → Int32 → Option Int32
  | 0, _ => none
  | n + 1, v1 =>
    (so_rk (so_R S f0 0) [1]).bind fun p2 =>
    if (so_I S p2 6) ≤ v1 then
    (some (1 : Int32))
    else
    (so_j (κ := Unit → Option Int32) (ρ := Option Int32) (fun (_u : Unit) =>
    LX1_isAlone_2 f0 f1 S n (v1 + (1 : Int32)))
    (fun J5 =>
    if (fX1_has f1 v1) = (0 : Int32) then
    (J5 ())
    else
    ((so_rk (so_R S f0 0) [1]).bind fun p7 =>
    (so_rk (so_R S p7 2) [50]).bind fun p9 =>
    so_gd (so_in v1 (so_l S p9)) fun _ =>
    if ((so_I S p9 v1.toNatClampNeg) &&& f1) = (0 : Int32) then
    (J5 ())
    else
    (some (0 : Int32)))))
set_option maxHeartbeats 4000000 in
set_option maxRecDepth 100000 in
theorem wX1_isAlone_2 {res : Int32}   (f0 : Nat) (f1 : Int32)  (S : so_St) (k_f0 : f0 % 64 ∈ [0]) : ∀ (n : Nat) (v1 : Int32), LX1_isAlone_2 f0 f1 S n v1 = some res → jg_ (S, S, .inl (some (.int res))) kX1_isAlone 2 [(0, .ref f0), (1, .int f1), (2, .int v1)] [] S := by
  intro n
  induction n with
  | zero =>
    intro v1 hf
    exact so_no hf
  | succ n ih =>
    intro v1 hf
    rw [LX1_isAlone_2] at hf
    refine jr_iload_n dX1_isAlone_2 rfl rfl ?_
    refine jr_aload_n dX1_isAlone_3 rfl rfl jv_rr ?_
    refine jr_getR fl_X1_22_0 k_f0 (so_n26 rfl) dX1_isAlone_4 ?_
    obtain ⟨p2, h3, hf⟩ := so_b hf
    obtain ⟨h3, k_p2⟩ := so_rk_s h3
    refine jr_rf h3 ?_
    refine jr_getI fl_X1_149_1 k_p2 (so_n26 rfl) dX1_isAlone_7 ?_
    refine jr_icmp_ge (tgt := 43) dX1_isAlone_10 rfl (fun c4 => ?_) (fun c4 => ?_)
    · have hf := so_t c4 hf
      refine jr_iconst dX1_isAlone_43 ic_1 ?_
      obtain rfl := so_e1 hf
      exact jr_iret rfl rfl dX1_isAlone_44
    · have hf := so_f c4 hf
      refine jr_iload_n dX1_isAlone_13 rfl rfl ?_
      refine jr_iload_n dX1_isAlone_14 rfl rfl ?_
      refine jr_call (st := []) lk_X1_349 (wX1_has f1 v1 S rfl) jk_r0 rfl rfl (so_le rfl) (so_le rfl) dX1_isAlone_15 ?_
      refine so_jE hf (fun J => ∀ (u0 : Unit), J u0 = some res → jg_ (S, S, .inl (some (.int res))) kX1_isAlone 37 [(0, .ref f0), (1, .int f1), (2, .int v1)] [] S) (fun _u hf => ?_) (fun J5 hJ5 hf => ?_)
      · refine jr_iinc (v := v1 + (1 : Int32)) (lv' := [(0, .ref f0), (1, .int f1), (2, .int (v1 + (1 : Int32)))]) dX1_isAlone_37 rfl rfl (so_le rfl) rfl ?_
        refine jr_goto (tgt := 2) dX1_isAlone_40 rfl ?_
        exact ih (v1 + (1 : Int32)) hf
      · refine jr_if_eq (tgt := 37) dX1_isAlone_18 rfl (fun c6 => ?_) (fun c6 => ?_)
        · have hf := so_t c6 hf
          exact hJ5 () hf
        · have hf := so_f c6 hf
          refine jr_aload_n dX1_isAlone_21 rfl rfl jv_rr ?_
          refine jr_getR fl_X1_22_0 k_f0 (so_n26 rfl) dX1_isAlone_22 ?_
          obtain ⟨p7, h8, hf⟩ := so_b hf
          obtain ⟨h8, k_p7⟩ := so_rk_s h8
          refine jr_rf h8 ?_
          refine jr_getR fl_X1_283_1 k_p7 (so_n26 rfl) dX1_isAlone_25 ?_
          obtain ⟨p9, h10, hf⟩ := so_b hf
          obtain ⟨h10, k_p9⟩ := so_rk_s h10
          refine jr_rf h10 ?_
          refine jr_iload_n dX1_isAlone_28 rfl rfl ?_
          obtain ⟨g11, hf⟩ := so_gdE hf
          refine jr_iaload (so_m1 k_p9) (so_inE g11) dX1_isAlone_29 ?_
          refine jr_iload_n dX1_isAlone_30 rfl rfl ?_
          refine jr_iand dX1_isAlone_31 ?_
          refine jr_if_eq (tgt := 37) dX1_isAlone_32 rfl (fun c12 => ?_) (fun c12 => ?_)
          · have hf := so_t c12 hf
            exact hJ5 () hf
          · have hf := so_f c12 hf
            refine jr_iconst dX1_isAlone_35 ic_0 ?_
            obtain rfl := so_e1 hf
            exact jr_iret rfl rfl dX1_isAlone_36
def fX1_isAlone (a0 : Nat) (a1 : Int32) (S : so_St) : Option Int32 :=
  LX1_isAlone_2 a0 a1 S so_N (0 : Int32)
set_option maxHeartbeats 4000000 in
set_option maxRecDepth 100000 in
theorem wX1_isAlone {res : Int32}  (a0 : Nat) (a1 : Int32)  (S : so_St) (k_a0 : a0 % 64 ∈ [0]) (hf : fX1_isAlone a0 a1 S = some res) : jx_Sp 1 yX1_isAlone (ws_ yX1_isAlone cX1_isAlone 3 (Option.some Jvm.ClassFile.FieldType.boolean)) [.ref a0, .int a1] S (.inl (some (.int res))) S := by
  refine jx_of (plainFor_of_name (by decide)) (so_le rfl) ?_
  show jg_ (S, S, .inl (some (.int res))) kX1_isAlone 0 [(0, .ref a0), (1, .int a1)] [] S
  unfold fX1_isAlone at hf
  refine jr_iconst dX1_isAlone_0 ic_0 ?_
  refine jr_istore_n (lv' := [(0, .ref a0), (1, .int a1), (2, .int (0 : Int32))]) dX1_isAlone_1 rfl (so_le rfl) rfl ?_
  refine wX1_isAlone_2 a0 a1 S k_a0 so_N (0 : Int32) hf

/- X1_alone -/
abbrev kX1_alone : jx_K := (cX1_alone, 3, RX1, 2, (Option.some Jvm.ClassFile.FieldType.int), "alone", [])
def LX1_alone_4 (f0 : Nat) (S : so_St) : Nat → Int32 → Int32 → Option Int32
  | 0, _, _ => none
  | n + 1, v1, v2 =>
    (so_rk (so_R S f0 0) [1]).bind fun p3 =>
    if ((1 : Int32) <<< ((so_I S p3 6) &&& 31)) ≤ v2 then
    (some v1)
    else
    (so_j (κ := Int32 → Option Int32) (ρ := Option Int32) (fun (v6 : Int32) =>
    LX1_alone_4 f0 S n v6 (v2 + (1 : Int32)))
    (fun J7 =>
    if (fJ16_bitCount v2) ≤ (fJ16_bitCount v1) then
    (J7 v1)
    else
    ((fX1_isAlone f0 v2 S).bind fun r10 =>
    if r10 = (0 : Int32) then
    (J7 v1)
    else
    (J7 v2))))
set_option maxHeartbeats 4000000 in
set_option maxRecDepth 100000 in
theorem wX1_alone_4 {res : Int32}   (f0 : Nat)  (S : so_St) (k_f0 : f0 % 64 ∈ [0]) : ∀ (n : Nat) (v1 : Int32) (v2 : Int32), LX1_alone_4 f0 S n v1 v2 = some res → jg_ (S, S, .inl (some (.int res))) kX1_alone 4 [(0, .ref f0), (1, .int v1), (2, .int v2)] [] S := by
  intro n
  induction n with
  | zero =>
    intro v1 v2 hf
    exact so_no hf
  | succ n ih =>
    intro v1 v2 hf
    rw [LX1_alone_4] at hf
    refine jr_iload_n dX1_alone_4 rfl rfl ?_
    refine jr_iconst dX1_alone_5 ic_1 ?_
    refine jr_aload_n dX1_alone_6 rfl rfl jv_rr ?_
    refine jr_getR fl_X1_22_0 k_f0 (so_n26 rfl) dX1_alone_7 ?_
    obtain ⟨p3, h4, hf⟩ := so_b hf
    obtain ⟨h4, k_p3⟩ := so_rk_s h4
    refine jr_rf h4 ?_
    refine jr_getI fl_X1_149_1 k_p3 (so_n26 rfl) dX1_alone_10 ?_
    refine jr_ishl dX1_alone_13 ?_
    refine jr_icmp_ge (tgt := 44) dX1_alone_14 rfl (fun c5 => ?_) (fun c5 => ?_)
    · have hf := so_t c5 hf
      refine jr_iload_n dX1_alone_44 rfl rfl ?_
      obtain rfl := so_e1 hf
      exact jr_iret rfl rfl dX1_alone_45
    · have hf := so_f c5 hf
      refine jr_iload_n dX1_alone_17 rfl rfl ?_
      refine jr_call (st := []) lk_X1_373 (wJ16_bitCount v2 S rfl) jk_r0 rfl rfl (so_le rfl) (so_le rfl) dX1_alone_18 ?_
      refine jr_iload_n dX1_alone_21 rfl rfl ?_
      refine jr_call (st := [.int (fJ16_bitCount v2)]) lk_X1_373 (wJ16_bitCount v1 S rfl) jk_r0 rfl rfl (so_le rfl) (so_le rfl) dX1_alone_22 ?_
      refine so_jE hf (fun J => ∀ (v6 : Int32), J v6 = some res → jg_ (S, S, .inl (some (.int res))) kX1_alone 38 [(0, .ref f0), (1, .int v6), (2, .int v2)] [] S) (fun v6 hf => ?_) (fun J7 hJ7 hf => ?_)
      · refine jr_iinc (v := v2 + (1 : Int32)) (lv' := [(0, .ref f0), (1, .int v6), (2, .int (v2 + (1 : Int32)))]) dX1_alone_38 rfl rfl (so_le rfl) rfl ?_
        refine jr_goto (tgt := 4) dX1_alone_41 rfl ?_
        exact ih v6 (v2 + (1 : Int32)) hf
      · refine jr_icmp_le (tgt := 38) dX1_alone_25 rfl (fun c8 => ?_) (fun c8 => ?_)
        · have hf := so_t c8 hf
          exact hJ7 v1 hf
        · have hf := so_f c8 hf
          refine jr_aload_n dX1_alone_28 rfl rfl jv_rr ?_
          refine jr_iload_n dX1_alone_29 rfl rfl ?_
          obtain ⟨r10, h9, hf⟩ := so_b hf
          refine jr_callM (st := []) lk_X1_378_0 (wX1_isAlone f0 v2 S k_f0 h9) k_f0 rfl rfl rfl (so_le rfl) (so_le rfl) dX1_alone_30 ?_
          refine jr_if_eq (tgt := 38) dX1_alone_33 rfl (fun c11 => ?_) (fun c11 => ?_)
          · have hf := so_t c11 hf
            exact hJ7 v1 hf
          · have hf := so_f c11 hf
            refine jr_iload_n dX1_alone_36 rfl rfl ?_
            refine jr_istore_n (lv' := [(0, .ref f0), (1, .int v2), (2, .int v2)]) dX1_alone_37 rfl (so_le rfl) rfl ?_
            exact hJ7 v2 hf
def fX1_alone (a0 : Nat) (S : so_St) : Option Int32 :=
  LX1_alone_4 a0 S so_N (0 : Int32) (1 : Int32)
set_option maxHeartbeats 4000000 in
set_option maxRecDepth 100000 in
theorem wX1_alone {res : Int32}  (a0 : Nat)  (S : so_St) (k_a0 : a0 % 64 ∈ [0]) (hf : fX1_alone a0 S = some res) : jx_Sp 2 yX1_alone (ws_ yX1_alone cX1_alone 3 (Option.some Jvm.ClassFile.FieldType.int)) [.ref a0] S (.inl (some (.int res))) S := by
  refine jx_of (plainFor_of_name (by decide)) (so_le rfl) ?_
  show jg_ (S, S, .inl (some (.int res))) kX1_alone 0 [(0, .ref a0)] [] S
  unfold fX1_alone at hf
  refine jr_iconst dX1_alone_0 ic_0 ?_
  refine jr_istore_n (lv' := [(0, .ref a0), (1, .int (0 : Int32))]) dX1_alone_1 rfl (so_le rfl) rfl ?_
  refine jr_iconst dX1_alone_2 ic_1 ?_
  refine jr_istore_n (lv' := [(0, .ref a0), (1, .int (0 : Int32)), (2, .int (1 : Int32))]) dX1_alone_3 rfl (so_le rfl) rfl ?_
  refine wX1_alone_4 a0 S k_a0 so_N (0 : Int32) (1 : Int32) hf

/- X1_image -/
abbrev kX1_image : jx_K := (cX1_image, 2, RX1, 3, (Option.some Jvm.ClassFile.FieldType.int), "image", [])
def LX1_image_28 (f0 : Nat) (k65 : so_St → Option (Int32 × so_St)) : Nat → Int32 → so_St → Option (Int32 × so_St)
  | 0, _, _ => none
  | n + 1, v9, S10 =>
    if (so_I S10 f0 11) ≤ v9 then
    (k65 S10)
    else
    ((so_rk (so_R S10 f0 9) [54]).bind fun p12 =>
    (so_rk (so_R S10 f0 7) [54]).bind fun p14 =>
    so_gd (so_in v9 (so_l S10 p14)) fun _ =>
    (so_rk (so_R S10 p14 v9.toNatClampNeg) [22]).bind fun p17 =>
    (fX1_kept f0 p12 (((16 : Int32) * (so_I S10 f0 17)) + v9) p17 S10).bind fun S21 =>
    LX1_image_28 f0 k65 n (v9 + (1 : Int32)) S21)
set_option maxHeartbeats 4000000 in
set_option maxRecDepth 100000 in
theorem wX1_image_28 {res : Int32} {S' : so_St} {S0 : so_St}   (f0 : Nat)   (k_f0 : f0 % 64 ∈ [0]) (k65 : so_St → Option (Int32 × so_St)) (h65 : ∀ (S22 : so_St), k65 S22 = some (res, S') → jg_ (S0, S', .inl (some (.int res))) kX1_image 65 [(0, .ref f0)] [] S22) : ∀ (n : Nat) (v9 : Int32) (S10 : so_St), LX1_image_28 f0 k65 n v9 S10 = some (res, S') → jg_ (S0, S', .inl (some (.int res))) kX1_image 28 [(0, .ref f0), (1, .int v9)] [] S10 := by
  intro n
  induction n with
  | zero =>
    intro v9 S10 hf
    exact so_no hf
  | succ n ih =>
    intro v9 S10 hf
    rw [LX1_image_28] at hf
    refine jr_iload_n dX1_image_28 rfl rfl ?_
    refine jr_aload_n dX1_image_29 rfl rfl jv_rr ?_
    refine jr_getI fl_X1_100_0 k_f0 (so_n26 rfl) dX1_image_30 ?_
    refine jr_icmp_ge (tgt := 65) dX1_image_33 rfl (fun c11 => ?_) (fun c11 => ?_)
    · have hf := so_t c11 hf
      refine jr_sub [0] rfl ?_
      exact h65 S10 hf
    · have hf := so_f c11 hf
      refine jr_aload_n dX1_image_36 rfl rfl jv_rr ?_
      refine jr_aload_n dX1_image_37 rfl rfl jv_rr ?_
      refine jr_getR fl_X1_63_0 k_f0 (so_n26 rfl) dX1_image_38 ?_
      obtain ⟨p12, h13, hf⟩ := so_b hf
      obtain ⟨h13, k_p12⟩ := so_rk_s h13
      refine jr_rf h13 ?_
      refine jr_bipush dX1_image_41 bp_16 ?_
      refine jr_aload_n dX1_image_43 rfl rfl jv_rr ?_
      refine jr_getI fl_X1_109_0 k_f0 (so_n26 rfl) dX1_image_44 ?_
      refine jr_imul dX1_image_47 ?_
      refine jr_iload_n dX1_image_48 rfl rfl ?_
      refine jr_iadd dX1_image_49 ?_
      refine jr_aload_n dX1_image_50 rfl rfl jv_rr ?_
      refine jr_getR fl_X1_56_0 k_f0 (so_n26 rfl) dX1_image_51 ?_
      obtain ⟨p14, h15, hf⟩ := so_b hf
      obtain ⟨h15, k_p14⟩ := so_rk_s h15
      refine jr_rf h15 ?_
      refine jr_iload_n dX1_image_54 rfl rfl ?_
      obtain ⟨g16, hf⟩ := so_gdE hf
      refine jr_aaload (Or.inl (so_m1 k_p14)) (so_inE g16) dX1_image_55 ?_
      obtain ⟨p17, h18, hf⟩ := so_b hf
      obtain ⟨h18, k_p17⟩ := so_rk_s h18
      refine jr_rf h18 ?_
      obtain ⟨S21, h19, hf⟩ := so_b hf
      refine jr_callM (st := []) lk_X1_202_0 (wX1_kept f0 p12 (((16 : Int32) * (so_I S10 f0 17)) + v9) p17 S10 k_f0 k_p12 k_p17 h19) k_f0 rfl rfl rfl (so_le rfl) (so_le rfl) dX1_image_56 ?_
      refine jr_iinc (v := v9 + (1 : Int32)) (lv' := [(0, .ref f0), (1, .int (v9 + (1 : Int32)))]) dX1_image_59 rfl rfl (so_le rfl) rfl ?_
      refine jr_goto (tgt := 28) dX1_image_62 rfl ?_
      exact ih (v9 + (1 : Int32)) S21 hf
def fX1_image (a0 : Nat) (S : so_St) : Option (Int32 × so_St) :=
  if (so_I S a0 17) = (3 : Int32) then
  (some ((-1 : Int32), S))
  else
  ((so_rk (so_R S a0 8) [54]).bind fun p2 =>
  (so_rk (so_R S a0 5) [22]).bind fun p4 =>
  (fX1_kept a0 p2 (so_I S a0 17) p4 S).bind fun S8 =>
  LX1_image_28 a0 (fun (S23 : so_St) =>
  (so_rk (so_R S23 a0 10) [50]).bind fun p24 =>
  so_gd (so_in (so_I S23 a0 17) (so_l S23 p24)) fun _ =>
  so_let (so_sI S23 p24 (so_I S23 a0 17).toNatClampNeg (so_I S23 a0 11)) fun S27 =>
  so_let (so_sI S27 a0 17 ((so_I S27 a0 17) + (1 : Int32))) fun S28 =>
  some (so_I S28 a0 17, S28)) so_N (0 : Int32) S8)
set_option maxHeartbeats 4000000 in
set_option maxRecDepth 100000 in
theorem wX1_image {res : Int32} {S' : so_St}  (a0 : Nat)  (S : so_St) (k_a0 : a0 % 64 ∈ [0]) (hf : fX1_image a0 S = some (res, S')) : jx_Sp 3 yX1_image (ws_ yX1_image cX1_image 2 (Option.some Jvm.ClassFile.FieldType.int)) [.ref a0] S (.inl (some (.int res))) S' := by
  refine jx_of (plainFor_of_name (by decide)) (so_le rfl) ?_
  show jg_ (S, S', .inl (some (.int res))) kX1_image 0 [(0, .ref a0)] [] S
  unfold fX1_image at hf
  refine jr_aload_n dX1_image_0 rfl rfl jv_rr ?_
  refine jr_getI fl_X1_109_0 k_a0 (so_n26 rfl) dX1_image_1 ?_
  refine jr_iconst dX1_image_4 ic_3 ?_
  refine jr_icmp_ne (tgt := 10) dX1_image_5 rfl (fun c1 => ?_) (fun c1 => ?_)
  · have hf := so_f c1 hf
    refine jr_aload_n dX1_image_10 rfl rfl jv_rr ?_
    refine jr_aload_n dX1_image_11 rfl rfl jv_rr ?_
    refine jr_getR fl_X1_60_0 k_a0 (so_n26 rfl) dX1_image_12 ?_
    obtain ⟨p2, h3, hf⟩ := so_b hf
    obtain ⟨h3, k_p2⟩ := so_rk_s h3
    refine jr_rf h3 ?_
    refine jr_aload_n dX1_image_15 rfl rfl jv_rr ?_
    refine jr_getI fl_X1_109_0 k_a0 (so_n26 rfl) dX1_image_16 ?_
    refine jr_aload_n dX1_image_19 rfl rfl jv_rr ?_
    refine jr_getR fl_X1_49_0 k_a0 (so_n26 rfl) dX1_image_20 ?_
    obtain ⟨p4, h5, hf⟩ := so_b hf
    obtain ⟨h5, k_p4⟩ := so_rk_s h5
    refine jr_rf h5 ?_
    obtain ⟨S8, h6, hf⟩ := so_b hf
    refine jr_callM (st := []) lk_X1_202_0 (wX1_kept a0 p2 (so_I S a0 17) p4 S k_a0 k_p2 k_p4 h6) k_a0 rfl rfl rfl (so_le rfl) (so_le rfl) dX1_image_23 ?_
    refine jr_iconst dX1_image_26 ic_0 ?_
    refine jr_istore_n (lv' := [(0, .ref a0), (1, .int (0 : Int32))]) dX1_image_27 rfl (so_le rfl) rfl ?_
    refine wX1_image_28 a0 k_a0 _ (fun S23 hf => ?_) so_N (0 : Int32) S8 hf
    refine jr_aload_n dX1_image_65 rfl rfl jv_rr ?_
    refine jr_getR fl_X1_66_0 k_a0 (so_n26 rfl) dX1_image_66 ?_
    obtain ⟨p24, h25, hf⟩ := so_b hf
    obtain ⟨h25, k_p24⟩ := so_rk_s h25
    refine jr_rf h25 ?_
    refine jr_aload_n dX1_image_69 rfl rfl jv_rr ?_
    refine jr_getI fl_X1_109_0 k_a0 (so_n26 rfl) dX1_image_70 ?_
    refine jr_aload_n dX1_image_73 rfl rfl jv_rr ?_
    refine jr_getI fl_X1_100_0 k_a0 (so_n26 rfl) dX1_image_74 ?_
    obtain ⟨g26, hf⟩ := so_gdE hf
    refine jr_iastore (so_m1 k_p24) (so_inE g26) dX1_image_77 ?_
    refine so_let_e hf (fun S27 hf => ?_)
    refine jr_aload_n dX1_image_78 rfl rfl jv_rr ?_
    refine jr_dup dX1_image_79 rfl ?_
    refine jr_getI fl_X1_109_0 k_a0 (so_n26 rfl) dX1_image_80 ?_
    refine jr_iconst dX1_image_83 ic_1 ?_
    refine jr_iadd dX1_image_84 ?_
    refine jr_putI fp_X1_109_0 k_a0 (so_n26 rfl) (fun h => by cases h) rfl rfl dX1_image_85 ?_
    refine so_let_e hf (fun S28 hf => ?_)
    refine jr_aload_n dX1_image_88 rfl rfl jv_rr ?_
    refine jr_getI fl_X1_109_0 k_a0 (so_n26 rfl) dX1_image_89 ?_
    obtain ⟨rfl, rfl⟩ := so_e2 hf
    exact jr_iret rfl rfl dX1_image_92
  · have hf := so_t c1 hf
    refine jr_iconst dX1_image_8 ic_m1 ?_
    obtain ⟨rfl, rfl⟩ := so_e2 hf
    exact jr_iret rfl rfl dX1_image_9
