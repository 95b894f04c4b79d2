/-! printed: functions and walks -/
set_option maxRecDepth 100000
set_option linter.unusedVariables false
/- X1_heHas -/
abbrev kX1_heHas : jx_K := (cX1_heHas, 3, RX1, 0, (Option.some Jvm.ClassFile.FieldType.int), "heHas", [])
def fX1_heHas (a0 : Int32) (a1 : Int32) (a2 : Int32) : Int32 :=
  if a0 = (1 : Int32) then
  ((0 : Int32))
  else
  (if a1 = (0 : Int32) then
  (a2)
  else
  ((-1 : Int32)))
set_option maxHeartbeats 4000000 in
set_option maxRecDepth 100000 in
theorem wX1_heHas {res : Int32}  (a0 : Int32) (a1 : Int32) (a2 : Int32)  (S : so_St)  (hf : fX1_heHas a0 a1 a2 = res) : jx_Sp 0 yX1_heHas (ws_ yX1_heHas cX1_heHas 3 (Option.some Jvm.ClassFile.FieldType.int)) [.int a0, .int a1, .int a2] S (.inl (some (.int res))) S := by
  refine jx_of (plainFor_of_name (by decide)) (so_le rfl) ?_
  show jg_ (S, S, .inl (some (.int res))) kX1_heHas 0 [(0, .int a0), (1, .int a1), (2, .int a2)] [] S
  unfold fX1_heHas at hf
  refine jr_iload_n dX1_heHas_0 rfl rfl ?_
  refine jr_iconst dX1_heHas_1 ic_1 ?_
  refine jr_icmp_ne (tgt := 9) dX1_heHas_2 rfl (fun c1 => ?_) (fun c1 => ?_)
  · have hf := so_f c1 hf
    refine jr_iload_n dX1_heHas_9 rfl rfl ?_
    refine jr_if_ne (tgt := 17) dX1_heHas_10 rfl (fun c2 => ?_) (fun c2 => ?_)
    · have hf := so_f c2 hf
      refine jr_iconst dX1_heHas_17 ic_m1 ?_
      obtain rfl := hf
      exact jr_iret rfl rfl dX1_heHas_18
    · have hf := so_t c2 hf
      refine jr_iload_n dX1_heHas_13 rfl rfl ?_
      refine jr_goto (tgt := 18) dX1_heHas_14 rfl ?_
      obtain rfl := hf
      exact jr_iret rfl rfl dX1_heHas_18
  · have hf := so_t c1 hf
    refine jr_iconst dX1_heHas_5 ic_0 ?_
    refine jr_goto (tgt := 18) dX1_heHas_6 rfl ?_
    obtain rfl := hf
    exact jr_iret rfl rfl dX1_heHas_18

/- X1_itHas -/
abbrev kX1_itHas : jx_K := (cX1_itHas, 4, RX1, 0, (Option.some Jvm.ClassFile.FieldType.int), "itHas", [])
def fX1_itHas (a0 : Int32) (a1 : Int32) (a2 : Int32) (a3 : Int32) : Int32 :=
  if a1 = (1 : Int32) then
  ((0 : Int32))
  else
  (if a0 = (0 : Int32) then
  (a2)
  else
  (a3))
set_option maxHeartbeats 4000000 in
set_option maxRecDepth 100000 in
theorem wX1_itHas {res : Int32}  (a0 : Int32) (a1 : Int32) (a2 : Int32) (a3 : Int32)  (S : so_St)  (hf : fX1_itHas a0 a1 a2 a3 = res) : jx_Sp 0 yX1_itHas (ws_ yX1_itHas cX1_itHas 4 (Option.some Jvm.ClassFile.FieldType.int)) [.int a0, .int a1, .int a2, .int a3] S (.inl (some (.int res))) S := by
  refine jx_of (plainFor_of_name (by decide)) (so_le rfl) ?_
  show jg_ (S, S, .inl (some (.int res))) kX1_itHas 0 [(0, .int a0), (1, .int a1), (2, .int a2), (3, .int a3)] [] S
  unfold fX1_itHas at hf
  refine jr_iload_n dX1_itHas_0 rfl rfl ?_
  refine jr_iconst dX1_itHas_1 ic_1 ?_
  refine jr_icmp_ne (tgt := 9) dX1_itHas_2 rfl (fun c1 => ?_) (fun c1 => ?_)
  · have hf := so_f c1 hf
    refine jr_iload_n dX1_itHas_9 rfl rfl ?_
    refine jr_if_ne (tgt := 17) dX1_itHas_10 rfl (fun c2 => ?_) (fun c2 => ?_)
    · have hf := so_f c2 hf
      refine jr_iload_n dX1_itHas_17 rfl rfl ?_
      obtain rfl := hf
      exact jr_iret rfl rfl dX1_itHas_18
    · have hf := so_t c2 hf
      refine jr_iload_n dX1_itHas_13 rfl rfl ?_
      refine jr_goto (tgt := 18) dX1_itHas_14 rfl ?_
      obtain rfl := hf
      exact jr_iret rfl rfl dX1_itHas_18
  · have hf := so_t c1 hf
    refine jr_iconst dX1_itHas_5 ic_0 ?_
    refine jr_goto (tgt := 18) dX1_itHas_6 rfl ?_
    obtain rfl := hf
    exact jr_iret rfl rfl dX1_itHas_18

/- X1_tuner -/
abbrev kX1_tuner : jx_K := (cX1_tuner, 8, RX1, 7, (Option.some Jvm.ClassFile.FieldType.int), "tuner", [])
def LX1_tuner_56 (f1 : Int32) (f2 : Int32) (f3 : Int32) (f6 : Int32) (k134 : Int32 → Int32 → so_St → Option ((Int32 ⊕ Nat) × so_St)) : Nat → Int32 → Int32 → Int32 → so_St → Option ((Int32 ⊕ Nat) × so_St)
  | 0, _, _, _, _ => none
  | n + 1, v14, v15, v16, S17 =>
    if (1 : Int32) < v16 then
    (k134 v14 v15 S17)
    else
    (so_j (κ := Int32 → Int32 → Option ((Int32 ⊕ Nat) × so_St)) (ρ := Option ((Int32 ⊕ Nat) × so_St)) (fun (v19 : Int32) (v20 : Int32) =>
    LX1_tuner_56 f1 f2 f3 f6 k134 n v19 v20 (v16 + (1 : Int32)) S17)
    (fun J21 =>
    if (fX1_heHas f6 v16 f1) < (fX1_heHas ((1 : Int32) - f6) v16 f1) then
    (J21 v14 v15)
    else
    (if (fX1_itHas f6 ((1 : Int32) - v16) f1 f2) ≤ (fX1_itHas f6 v16 f1 f2) then
    (if v15 = (-1 : Int32) then
    (J21 (v14 + (1 : Int32)) (((10 : Int32) * f6) + v16))
    else
    (J21 (v14 + (1 : Int32)) v15))
    else
    (J21 v14 v15))))
set_option maxHeartbeats 4000000 in
set_option maxRecDepth 100000 in
theorem wX1_tuner_56 {res : Int32 ⊕ Nat} {S' : so_St} {S0 : so_St}   (f1 : Int32) (f2 : Int32) (f3 : Int32) (f6 : Int32)    (k134 : Int32 → Int32 → so_St → Option ((Int32 ⊕ Nat) × so_St)) (h134 : ∀ (v25 : Int32) (v26 : Int32) (S27 : so_St), k134 v25 v26 S27 = some (res, S') → jg_ (S0, S', so_oi res) kX1_tuner 134 [(1, .int f1), (2, .int f2), (3, .int f3), (4, .int v25), (5, .int v26), (6, .int f6)] [] S27) : ∀ (n : Nat) (v14 : Int32) (v15 : Int32) (v16 : Int32) (S17 : so_St), LX1_tuner_56 f1 f2 f3 f6 k134 n v14 v15 v16 S17 = some (res, S') → jg_ (S0, S', so_oi res) kX1_tuner 56 [(1, .int f1), (2, .int f2), (3, .int f3), (4, .int v14), (5, .int v15), (6, .int f6), (7, .int v16)] [] S17 := by
  intro n
  induction n with
  | zero =>
    intro v14 v15 v16 S17 hf
    exact so_no hf
  | succ n ih =>
    intro v14 v15 v16 S17 hf
    rw [LX1_tuner_56] at hf
    refine jr_iload dX1_tuner_56 rfl ?_
    refine jr_iconst dX1_tuner_58 ic_1 ?_
    refine jr_icmp_gt (tgt := 134) dX1_tuner_59 rfl (fun c18 => ?_) (fun c18 => ?_)
    · have hf := so_t c18 hf
      refine jr_sub [0, 1, 2, 3, 4, 5] rfl ?_
      exact h134 v14 v15 S17 hf
    · have hf := so_f c18 hf
      refine jr_iconst dX1_tuner_62 ic_1 ?_
      refine jr_iload dX1_tuner_63 rfl ?_
      refine jr_isub dX1_tuner_65 ?_
      refine jr_iload dX1_tuner_66 rfl ?_
      refine jr_iload_n dX1_tuner_68 rfl rfl ?_
      refine jr_call (st := []) lk_X1_388 (wX1_heHas ((1 : Int32) - f6) v16 f1 S17 rfl) jk_r0 rfl rfl (so_le rfl) (so_le rfl) dX1_tuner_69 ?_
      refine jr_iload dX1_tuner_72 rfl ?_
      refine jr_iload dX1_tuner_74 rfl ?_
      refine jr_iload_n dX1_tuner_76 rfl rfl ?_
      refine jr_call (st := [.int (fX1_heHas ((1 : Int32) - f6) v16 f1)]) lk_X1_388 (wX1_heHas f6 v16 f1 S17 rfl) jk_r0 rfl rfl (so_le rfl) (so_le rfl) dX1_tuner_77 ?_
      refine so_jE hf (fun J => ∀ (v19 : Int32) (v20 : Int32), J v19 v20 = some (res, S') → jg_ (S0, S', so_oi res) kX1_tuner 128 [(1, .int f1), (2, .int f2), (3, .int f3), (4, .int v19), (5, .int v20), (6, .int f6), (7, .int v16)] [] S17) (fun v19 v20 hf => ?_) (fun J21 hJ21 hf => ?_)
      · refine jr_iinc (v := v16 + (1 : Int32)) (lv' := [(1, .int f1), (2, .int f2), (3, .int f3), (4, .int v19), (5, .int v20), (6, .int f6), (7, .int (v16 + (1 : Int32)))]) dX1_tuner_128 rfl rfl (so_le rfl) rfl ?_
        refine jr_goto (tgt := 56) dX1_tuner_131 rfl ?_
        exact ih v19 v20 (v16 + (1 : Int32)) S17 hf
      · refine jr_icmp_gt (tgt := 128) dX1_tuner_80 rfl (fun c22 => ?_) (fun c22 => ?_)
        · have hf := so_t c22 hf
          exact hJ21 v14 v15 hf
        · have hf := so_f c22 hf
          refine jr_iload dX1_tuner_83 rfl ?_
          refine jr_iconst dX1_tuner_85 ic_1 ?_
          refine jr_iload dX1_tuner_86 rfl ?_
          refine jr_isub dX1_tuner_88 ?_
          refine jr_iload_n dX1_tuner_89 rfl rfl ?_
          refine jr_iload_n dX1_tuner_90 rfl rfl ?_
          refine jr_call (st := []) lk_X1_392 (wX1_itHas f6 ((1 : Int32) - v16) f1 f2 S17 rfl) jk_r0 rfl rfl (so_le rfl) (so_le rfl) dX1_tuner_91 ?_
          refine jr_iload dX1_tuner_94 rfl ?_
          refine jr_iload dX1_tuner_96 rfl ?_
          refine jr_iload_n dX1_tuner_98 rfl rfl ?_
          refine jr_iload_n dX1_tuner_99 rfl rfl ?_
          refine jr_call (st := [.int (fX1_itHas f6 ((1 : Int32) - v16) f1 f2)]) lk_X1_392 (wX1_itHas f6 v16 f1 f2 S17 rfl) jk_r0 rfl rfl (so_le rfl) (so_le rfl) dX1_tuner_100 ?_
          refine jr_icmp_le (tgt := 109) dX1_tuner_103 rfl (fun c23 => ?_) (fun c23 => ?_)
          · have hf := so_t c23 hf
            refine jr_iinc (v := v14 + (1 : Int32)) (lv' := [(1, .int f1), (2, .int f2), (3, .int f3), (4, .int (v14 + (1 : Int32))), (5, .int v15), (6, .int f6), (7, .int v16)]) dX1_tuner_109 rfl rfl (so_le rfl) rfl ?_
            refine jr_iload dX1_tuner_112 rfl ?_
            refine jr_iconst dX1_tuner_114 ic_m1 ?_
            refine jr_icmp_ne (tgt := 128) dX1_tuner_115 rfl (fun c24 => ?_) (fun c24 => ?_)
            · have hf := so_f c24 hf
              exact hJ21 (v14 + (1 : Int32)) v15 hf
            · have hf := so_t c24 hf
              refine jr_bipush dX1_tuner_118 bp_10 ?_
              refine jr_iload dX1_tuner_120 rfl ?_
              refine jr_imul dX1_tuner_122 ?_
              refine jr_iload dX1_tuner_123 rfl ?_
              refine jr_iadd dX1_tuner_125 ?_
              refine jr_istore (lv' := [(1, .int f1), (2, .int f2), (3, .int f3), (4, .int (v14 + (1 : Int32))), (5, .int (((10 : Int32) * f6) + v16)), (6, .int f6), (7, .int v16)]) dX1_tuner_126 (so_le rfl) rfl ?_
              exact hJ21 (v14 + (1 : Int32)) (((10 : Int32) * f6) + v16) hf
          · have hf := so_f c23 hf
            refine jr_goto (tgt := 128) dX1_tuner_106 rfl ?_
            exact hJ21 v14 v15 hf
def LX1_tuner_47 (f1 : Int32) (f2 : Int32) (f3 : Int32) (k140 : Int32 → Int32 → so_St → Option ((Int32 ⊕ Nat) × so_St)) : Nat → Int32 → Int32 → Int32 → so_St → Option ((Int32 ⊕ Nat) × so_St)
  | 0, _, _, _, _ => none
  | n + 1, v9, v10, v11, S12 =>
    if (1 : Int32) < v11 then
    (k140 v9 v10 S12)
    else
    (LX1_tuner_56 f1 f2 f3 v11 (fun (v28 : Int32) (v29 : Int32) (S30 : so_St) =>
    LX1_tuner_47 f1 f2 f3 k140 n v28 v29 (v11 + (1 : Int32)) S30) so_N v9 v10 (0 : Int32) S12)
set_option maxHeartbeats 4000000 in
set_option maxRecDepth 100000 in
theorem wX1_tuner_47 {res : Int32 ⊕ Nat} {S' : so_St} {S0 : so_St}   (f1 : Int32) (f2 : Int32) (f3 : Int32)    (k140 : Int32 → Int32 → so_St → Option ((Int32 ⊕ Nat) × so_St)) (h140 : ∀ (v31 : Int32) (v32 : Int32) (S33 : so_St), k140 v31 v32 S33 = some (res, S') → jg_ (S0, S', so_oi res) kX1_tuner 140 [(1, .int f1), (2, .int f2), (3, .int f3), (4, .int v31), (5, .int v32)] [] S33) : ∀ (n : Nat) (v9 : Int32) (v10 : Int32) (v11 : Int32) (S12 : so_St), LX1_tuner_47 f1 f2 f3 k140 n v9 v10 v11 S12 = some (res, S') → jg_ (S0, S', so_oi res) kX1_tuner 47 [(1, .int f1), (2, .int f2), (3, .int f3), (4, .int v9), (5, .int v10), (6, .int v11)] [] S12 := by
  intro n
  induction n with
  | zero =>
    intro v9 v10 v11 S12 hf
    exact so_no hf
  | succ n ih =>
    intro v9 v10 v11 S12 hf
    rw [LX1_tuner_47] at hf
    refine jr_iload dX1_tuner_47 rfl ?_
    refine jr_iconst dX1_tuner_49 ic_1 ?_
    refine jr_icmp_gt (tgt := 140) dX1_tuner_50 rfl (fun c13 => ?_) (fun c13 => ?_)
    · have hf := so_t c13 hf
      refine jr_sub [0, 1, 2, 3, 4] rfl ?_
      exact h140 v9 v10 S12 hf
    · have hf := so_f c13 hf
      refine jr_iconst dX1_tuner_53 ic_0 ?_
      refine jr_istore (lv' := [(1, .int f1), (2, .int f2), (3, .int f3), (4, .int v9), (5, .int v10), (6, .int v11), (7, .int (0 : Int32))]) dX1_tuner_54 (so_le rfl) rfl ?_
      refine wX1_tuner_56 f1 f2 f3 v11 _ (fun v28 v29 S30 hf => ?_) so_N v9 v10 (0 : Int32) S12 hf
      refine jr_iinc (v := v11 + (1 : Int32)) (lv' := [(1, .int f1), (2, .int f2), (3, .int f3), (4, .int v28), (5, .int v29), (6, .int (v11 + (1 : Int32)))]) dX1_tuner_134 rfl rfl (so_le rfl) rfl ?_
      refine jr_goto (tgt := 47) dX1_tuner_137 rfl ?_
      exact ih v28 v29 (v11 + (1 : Int32)) S30 hf
def fX1_tuner (a0 : Nat) (a1 : Int32) (a2 : Int32) (a3 : Int32) (S : so_St) : Option ((Int32 ⊕ Nat) × so_St) :=
  so_j (κ := Int32 → Option ((Int32 ⊕ Nat) × so_St)) (ρ := Option ((Int32 ⊕ Nat) × so_St)) (fun (v1 : Int32) =>
  so_b3 (fX1_need a0 v1 S) (fun r3 S4 =>
  LX1_tuner_47 a1 a2 a3 (fun (v34 : Int32) (v35 : Int32) (S36 : so_St) =>
  if a3 = (0 : Int32) then
  (some (.inl v34, S36))
  else
  (if a3 = (1 : Int32) then
  (some (.inl v35, S36))
  else
  (if v35 = (-1 : Int32) then
  (some (.inl (0 : Int32), S36))
  else
  (some (.inl ((fX1_heHas (v35 / (10 : Int32)) (v35 - v35 / (10 : Int32) * (10 : Int32)) a1) + (fX1_itHas (v35 / (10 : Int32)) (v35 - v35 / (10 : Int32) * (10 : Int32)) a1 a2)), S36))))) so_N (0 : Int32) (-1 : Int32) (0 : Int32) S4)
  (fun x5 S6 =>
  so_gd (decide (x5 % 64 ∈ [27])) fun _ =>
  some (.inr x5, S6)))
  (fun J2 =>
  so_j (κ := Unit → Option ((Int32 ⊕ Nat) × so_St)) (ρ := Option ((Int32 ⊕ Nat) × so_St)) (fun (_u : Unit) =>
  J2 (0 : Int32))
  (fun J40 =>
  if (fX1_isIn a1 (0 : Int32) (99 : Int32)) = (0 : Int32) then
  (J40 ())
  else
  (if (fX1_isIn a2 (0 : Int32) (99 : Int32)) = (0 : Int32) then
  (J40 ())
  else
  (if (fX1_isIn a3 (0 : Int32) (2 : Int32)) = (0 : Int32) then
  (J40 ())
  else
  (J2 (1 : Int32))))))
set_option maxHeartbeats 4000000 in
set_option maxRecDepth 100000 in
theorem wX1_tuner {res : Int32 ⊕ Nat} {S' : so_St}  (a0 : Nat) (a1 : Int32) (a2 : Int32) (a3 : Int32)  (S : so_St) (k_a0 : a0 % 64 ∈ [0]) (hf : fX1_tuner a0 a1 a2 a3 S = some (res, S')) : jx_Sp 7 yX1_tuner (ws_ yX1_tuner cX1_tuner 8 (Option.some Jvm.ClassFile.FieldType.int)) [.ref a0, .int a1, .int a2, .int a3] S (so_oi res) S' := by
  refine jx_of (plainFor_of_name (by decide)) (so_le rfl) ?_
  show jg_ (S, S', so_oi res) kX1_tuner 0 [(0, .ref a0), (1, .int a1), (2, .int a2), (3, .int a3)] [] S
  unfold fX1_tuner at hf
  refine jr_aload_n dX1_tuner_0 rfl rfl jv_rr ?_
  refine jr_iload_n dX1_tuner_1 rfl rfl ?_
  refine jr_iconst dX1_tuner_2 ic_0 ?_
  refine jr_bipush dX1_tuner_3 bp_99 ?_
  refine jr_call (st := [.ref a0]) lk_X1_246 (wX1_isIn a1 (0 : Int32) (99 : Int32) S rfl) jk_r0 rfl rfl (so_le rfl) (so_le rfl) dX1_tuner_5 ?_
  refine so_jE hf (fun J => ∀ (v1 : Int32), J v1 = some (res, S') → jg_ (S, S', so_oi res) kX1_tuner 35 [(1, .int a1), (2, .int a2), (3, .int a3)] [.int v1, .ref a0] S) (fun v1 hf => ?_) (fun J2 hJ2 hf => ?_)
  · rcases so_b3E hf with ⟨r3, S4, h7, hf⟩ | ⟨x5, S6, h7, hf⟩
    · refine jr_callM (st := []) lk_X1_172_0 (wX1_need a0 v1 S k_a0 h7) k_a0 rfl rfl rfl (so_le rfl) (so_le rfl) dX1_tuner_35 ?_
      refine jr_iconst dX1_tuner_38 ic_0 ?_
      refine jr_istore (lv' := [(1, .int a1), (2, .int a2), (3, .int a3), (4, .int (0 : Int32))]) dX1_tuner_39 (so_le rfl) rfl ?_
      refine jr_iconst dX1_tuner_41 ic_m1 ?_
      refine jr_istore (lv' := [(1, .int a1), (2, .int a2), (3, .int a3), (4, .int (0 : Int32)), (5, .int (-1 : Int32))]) dX1_tuner_42 (so_le rfl) rfl ?_
      refine jr_iconst dX1_tuner_44 ic_0 ?_
      refine jr_istore (lv' := [(1, .int a1), (2, .int a2), (3, .int a3), (4, .int (0 : Int32)), (5, .int (-1 : Int32)), (6, .int (0 : Int32))]) dX1_tuner_45 (so_le rfl) rfl ?_
      refine wX1_tuner_47 a1 a2 a3 _ (fun v34 v35 S36 hf => ?_) so_N (0 : Int32) (-1 : Int32) (0 : Int32) S4 hf
      refine jr_iload_n dX1_tuner_140 rfl rfl ?_
      refine jr_if_ne (tgt := 149) dX1_tuner_141 rfl (fun c37 => ?_) (fun c37 => ?_)
      · have hf := so_f c37 hf
        refine jr_iload_n dX1_tuner_149 rfl rfl ?_
        refine jr_iconst dX1_tuner_150 ic_1 ?_
        refine jr_icmp_ne (tgt := 159) dX1_tuner_151 rfl (fun c38 => ?_) (fun c38 => ?_)
        · have hf := so_f c38 hf
          refine jr_iload dX1_tuner_159 rfl ?_
          refine jr_iconst dX1_tuner_161 ic_m1 ?_
          refine jr_icmp_ne (tgt := 169) dX1_tuner_162 rfl (fun c39 => ?_) (fun c39 => ?_)
          · have hf := so_f c39 hf
            refine jr_iload dX1_tuner_169 rfl ?_
            refine jr_bipush dX1_tuner_171 bp_10 ?_
            refine jr_idiv dX1_tuner_173 (by decide) ?_
            refine jr_iload dX1_tuner_174 rfl ?_
            refine jr_bipush dX1_tuner_176 bp_10 ?_
            refine jr_irem dX1_tuner_178 (by decide) ?_
            refine jr_iload_n dX1_tuner_179 rfl rfl ?_
            refine jr_call (st := []) lk_X1_388 (wX1_heHas (v35 / (10 : Int32)) (v35 - v35 / (10 : Int32) * (10 : Int32)) a1 S36 rfl) jk_r0 rfl rfl (so_le rfl) (so_le rfl) dX1_tuner_180 ?_
            refine jr_iload dX1_tuner_183 rfl ?_
            refine jr_bipush dX1_tuner_185 bp_10 ?_
            refine jr_idiv dX1_tuner_187 (by decide) ?_
            refine jr_iload dX1_tuner_188 rfl ?_
            refine jr_bipush dX1_tuner_190 bp_10 ?_
            refine jr_irem dX1_tuner_192 (by decide) ?_
            refine jr_iload_n dX1_tuner_193 rfl rfl ?_
            refine jr_iload_n dX1_tuner_194 rfl rfl ?_
            refine jr_call (st := [.int (fX1_heHas (v35 / (10 : Int32)) (v35 - v35 / (10 : Int32) * (10 : Int32)) a1)]) lk_X1_392 (wX1_itHas (v35 / (10 : Int32)) (v35 - v35 / (10 : Int32) * (10 : Int32)) a1 a2 S36 rfl) jk_r0 rfl rfl (so_le rfl) (so_le rfl) dX1_tuner_195 ?_
            refine jr_iadd dX1_tuner_198 ?_
            obtain ⟨rfl, rfl⟩ := so_e2 hf
            exact jr_iret rfl rfl dX1_tuner_199
          · have hf := so_t c39 hf
            refine jr_iconst dX1_tuner_165 ic_0 ?_
            refine jr_goto (tgt := 199) dX1_tuner_166 rfl ?_
            obtain ⟨rfl, rfl⟩ := so_e2 hf
            exact jr_iret rfl rfl dX1_tuner_199
        · have hf := so_t c38 hf
          refine jr_iload dX1_tuner_154 rfl ?_
          refine jr_goto (tgt := 199) dX1_tuner_156 rfl ?_
          obtain ⟨rfl, rfl⟩ := so_e2 hf
          exact jr_iret rfl rfl dX1_tuner_199
      · have hf := so_t c37 hf
        refine jr_iload dX1_tuner_144 rfl ?_
        refine jr_goto (tgt := 199) dX1_tuner_146 rfl ?_
        obtain ⟨rfl, rfl⟩ := so_e2 hf
        exact jr_iret rfl rfl dX1_tuner_199
    · refine jr_callMX (st := []) lk_X1_172_0 (wX1_need a0 v1 S k_a0 h7) k_a0 rfl rfl rfl (so_le rfl) (so_le rfl) dX1_tuner_35 ?_
      obtain ⟨g8, hf⟩ := so_gdE hf
      obtain ⟨rfl, rfl⟩ := so_e2 hf
      exact jr_out (so_l29 (of_decide_eq_true g8) rfl).1 (so_l29 (of_decide_eq_true g8) rfl).2 rfl
  · refine so_jE hf (fun J => ∀ (u0 : Unit), J u0 = some (res, S') → jg_ (S, S', so_oi res) kX1_tuner 34 [(1, .int a1), (2, .int a2), (3, .int a3)] [.ref a0] S) (fun _u hf => ?_) (fun J40 hJ40 hf => ?_)
    · refine jr_iconst dX1_tuner_34 ic_0 ?_
      exact hJ2 (0 : Int32) hf
    · refine jr_if_eq (tgt := 34) dX1_tuner_8 rfl (fun c41 => ?_) (fun c41 => ?_)
      · have hf := so_t c41 hf
        refine jr_sub [1, 2, 3] rfl ?_
        exact hJ40 () hf
      · have hf := so_f c41 hf
        refine jr_iload_n dX1_tuner_11 rfl rfl ?_
        refine jr_iconst dX1_tuner_12 ic_0 ?_
        refine jr_bipush dX1_tuner_13 bp_99 ?_
        refine jr_call (st := [.ref a0]) lk_X1_246 (wX1_isIn a2 (0 : Int32) (99 : Int32) S rfl) jk_r0 rfl rfl (so_le rfl) (so_le rfl) dX1_tuner_15 ?_
        refine jr_if_eq (tgt := 34) dX1_tuner_18 rfl (fun c42 => ?_) (fun c42 => ?_)
        · have hf := so_t c42 hf
          refine jr_sub [1, 2, 3] rfl ?_
          exact hJ40 () hf
        · have hf := so_f c42 hf
          refine jr_iload_n dX1_tuner_21 rfl rfl ?_
          refine jr_iconst dX1_tuner_22 ic_0 ?_
          refine jr_iconst dX1_tuner_23 ic_2 ?_
          refine jr_call (st := [.ref a0]) lk_X1_246 (wX1_isIn a3 (0 : Int32) (2 : Int32) S rfl) jk_r0 rfl rfl (so_le rfl) (so_le rfl) dX1_tuner_24 ?_
          refine jr_if_eq (tgt := 34) dX1_tuner_27 rfl (fun c43 => ?_) (fun c43 => ?_)
          · have hf := so_t c43 hf
            refine jr_sub [1, 2, 3] rfl ?_
            exact hJ40 () hf
          · have hf := so_f c43 hf
            refine jr_iconst dX1_tuner_30 ic_1 ?_
            refine jr_goto (tgt := 35) dX1_tuner_31 rfl ?_
            refine jr_sub [1, 2, 3] rfl ?_
            exact hJ2 (1 : Int32) hf

/- X0_tuner -/
abbrev kX0_tuner : jx_K := (cX0_tuner, 6, RX0, 8, (Option.some Jvm.ClassFile.FieldType.int), "tuner", tableOf [(0, 12, 15, 13)])
def fX0_tuner (a0 : Nat) (a1 : Int32) (a2 : Int32) (a3 : Int32) (a4 : Nat) (S : so_St) : Option (Int32 × so_St) :=
  so_b3 (fX1_tuner a0 a1 a2 a3 S) (fun r1 S2 =>
  so_gd (so_in (0 : Int32) (so_l S2 a4)) fun _ =>
  so_let (so_sL S2 a4 (0 : Int32).toNatClampNeg r1.toInt64) fun S8 =>
  some ((0 : Int32), S8))
  (fun x3 S4 =>
  if x3 % 64 = 27 then
  (some ((1 : Int32), S4))
  else
  none)
set_option maxHeartbeats 4000000 in
set_option maxRecDepth 100000 in
theorem wX0_tuner {res : Int32} {S' : so_St}  (a0 : Nat) (a1 : Int32) (a2 : Int32) (a3 : Int32) (a4 : Nat)  (S : so_St) (k_a0 : a0 % 64 ∈ [0]) (k_a4 : a4 % 64 ∈ [53]) (hf : fX0_tuner a0 a1 a2 a3 a4 S = some (res, S')) : jx_Sp 8 yX0_tuner (wsW_ yX0_tuner cX0_tuner 6 (Option.some Jvm.ClassFile.FieldType.int) [(0, 12, 15, 13)]) [.ref a0, .int a1, .int a2, .int a3, .ref a4] S (.inl (some (.int res))) S' := by
  refine jx_ofW (by decide) (so_le rfl) ?_
  show jg_ (S, S', .inl (some (.int res))) kX0_tuner 0 [(0, .ref a0), (1, .int a1), (2, .int a2), (3, .int a3), (4, .ref a4)] [] S
  unfold fX0_tuner at hf
  refine jr_aload dX0_tuner_0 rfl jv_rr ?_
  refine jr_iconst dX0_tuner_2 ic_0 ?_
  refine jr_aload_n dX0_tuner_3 rfl rfl jv_rr ?_
  refine jr_iload_n dX0_tuner_4 rfl rfl ?_
  refine jr_iload_n dX0_tuner_5 rfl rfl ?_
  refine jr_iload_n dX0_tuner_6 rfl rfl ?_
  rcases so_b3E hf with ⟨r1, S2, h5, hf⟩ | ⟨x3, S4, h5, hf⟩
  · refine jr_callM (st := [.int (0 : Int32), .ref a4]) lk_X0_72_0 (wX1_tuner a0 a1 a2 a3 S k_a0 h5) k_a0 rfl rfl rfl (so_le rfl) (so_le rfl) dX0_tuner_7 ?_
    refine jr_i2l dX0_tuner_10 ?_
    obtain ⟨g7, hf⟩ := so_gdE hf
    refine jr_lastore (so_m1 k_a4) (so_inE g7) dX0_tuner_11 ?_
    refine so_let_e hf (fun S8 hf => ?_)
    refine jr_goto (tgt := 19) dX0_tuner_12 rfl ?_
    refine jr_iconst dX0_tuner_19 ic_0 ?_
    obtain ⟨rfl, rfl⟩ := so_e2 hf
    exact jr_iret rfl rfl dX0_tuner_20
  · refine jr_callMX (st := [.int (0 : Int32), .ref a4]) lk_X0_72_0 (wX1_tuner a0 a1 a2 a3 S k_a0 h5) k_a0 rfl rfl rfl (so_le rfl) (so_le rfl) dX0_tuner_7 ?_
    by_cases c6 : x3 % 64 = 27
    · have hf := so_t c6 hf
      refine jr_catch (by rw [c6]; decide) (by rw [c6]; decide) [] ⟨0, 12, 15, 13⟩ [] rfl (fun _ h => by cases h) rfl (by decide) q863 (by rw [c6]; exact q181) ?_
      refine jr_astore (lv' := [(0, .ref a0), (1, .int a1), (2, .int a2), (3, .int a3), (4, .ref a4), (5, .ref x3)]) dX0_tuner_15 (so_le rfl) jv_rr rfl ?_
      refine jr_iconst dX0_tuner_17 ic_1 ?_
      obtain ⟨rfl, rfl⟩ := so_e2 hf
      exact jr_iret rfl rfl dX0_tuner_18
    · have hf := so_f c6 hf
      exact so_no hf

/- X1_given -/
abbrev kX1_given : jx_K := (cX1_given, 5, RX1, 4, (Option.some Jvm.ClassFile.FieldType.int), "given", [])
def LX1_given_5 (f0 : Nat) (f1 : Int32) (f2 : Int32) (S : so_St) : Nat → Int32 → Int32 → Option Int32
  | 0, _, _ => none
  | n + 1, v1, v2 =>
    (fX1_pianos f0 S).bind fun r4 =>
    if r4 ≤ v2 then
    (some v1)
    else
    (so_j (κ := Int32 → Option Int32) (ρ := Option Int32) (fun (v6 : Int32) =>
    LX1_given_5 f0 f1 f2 S n (v1 + v6) (v2 + (1 : Int32)))
    (fun J7 =>
    if (fX1_has f1 v2) = (0 : Int32) then
    (J7 (0 : Int32))
    else
    ((fX1_pianoOf f0 v2 S).bind fun r10 =>
    so_gd (decide (r10 % 64 ∈ [4])) fun _ =>
    J7 (fJ12_min f2 (so_I S r10 1)))))
set_option maxHeartbeats 4000000 in
set_option maxRecDepth 100000 in
theorem wX1_given_5 {res : Int32}   (f0 : Nat) (f1 : Int32) (f2 : Int32)  (S : so_St) (k_f0 : f0 % 64 ∈ [0]) : ∀ (n : Nat) (v1 : Int32) (v2 : Int32), LX1_given_5 f0 f1 f2 S n v1 v2 = some res → jg_ (S, S, .inl (some (.int res))) kX1_given 5 [(0, .ref f0), (1, .int f1), (2, .int f2), (3, .int v1), (4, .int v2)] [] S := by
  intro n
  induction n with
  | zero =>
    intro v1 v2 hf
    exact so_no hf
  | succ n ih =>
    intro v1 v2 hf
    rw [LX1_given_5] at hf
    refine jr_iload dX1_given_5 rfl ?_
    refine jr_aload_n dX1_given_7 rfl rfl jv_rr ?_
    obtain ⟨r4, h3, hf⟩ := so_b hf
    refine jr_callM (st := [.int v2]) lk_X1_156_0 (wX1_pianos f0 S k_f0 h3) k_f0 rfl rfl rfl (so_le rfl) (so_le rfl) dX1_given_8 ?_
    refine jr_icmp_ge (tgt := 49) dX1_given_11 rfl (fun c5 => ?_) (fun c5 => ?_)
    · have hf := so_t c5 hf
      refine jr_iload_n dX1_given_49 rfl rfl ?_
      obtain rfl := so_e1 hf
      exact jr_iret rfl rfl dX1_given_50
    · have hf := so_f c5 hf
      refine jr_iload_n dX1_given_14 rfl rfl ?_
      refine jr_iload_n dX1_given_15 rfl rfl ?_
      refine jr_iload dX1_given_16 rfl ?_
      refine jr_call (st := [.int v1]) lk_X1_349 (wX1_has f1 v2 S rfl) jk_r0 rfl rfl (so_le rfl) (so_le rfl) dX1_given_18 ?_
      refine so_jE hf (fun J => ∀ (v6 : Int32), J v6 = some res → jg_ (S, S, .inl (some (.int res))) kX1_given 41 [(0, .ref f0), (1, .int f1), (2, .int f2), (4, .int v2)] [.int v6, .int v1] S) (fun v6 hf => ?_) (fun J7 hJ7 hf => ?_)
      · refine jr_iadd dX1_given_41 ?_
        refine jr_istore_n (lv' := [(0, .ref f0), (1, .int f1), (2, .int f2), (3, .int (v1 + v6)), (4, .int v2)]) dX1_given_42 rfl (so_le rfl) rfl ?_
        refine jr_iinc (v := v2 + (1 : Int32)) (lv' := [(0, .ref f0), (1, .int f1), (2, .int f2), (3, .int (v1 + v6)), (4, .int (v2 + (1 : Int32)))]) dX1_given_43 rfl rfl (so_le rfl) rfl ?_
        refine jr_goto (tgt := 5) dX1_given_46 rfl ?_
        exact ih (v1 + v6) (v2 + (1 : Int32)) hf
      · refine jr_if_eq (tgt := 40) dX1_given_21 rfl (fun c8 => ?_) (fun c8 => ?_)
        · have hf := so_t c8 hf
          refine jr_iconst dX1_given_40 ic_0 ?_
          refine jr_sub [0, 1, 2, 4] rfl ?_
          exact hJ7 (0 : Int32) hf
        · have hf := so_f c8 hf
          refine jr_iload_n dX1_given_24 rfl rfl ?_
          refine jr_aload_n dX1_given_25 rfl rfl jv_rr ?_
          refine jr_iload dX1_given_26 rfl ?_
          obtain ⟨r10, h9, hf⟩ := so_b hf
          obtain ⟨g11, hf⟩ := so_gdE hf
          refine jr_callM (st := [.int f2, .int v1]) lk_X1_308_0 (wX1_pianoOf f0 v2 S k_f0 h9) k_f0 rfl rfl rfl (so_le rfl) (so_le rfl) dX1_given_28 ?_
          refine jr_getI fl_X1_314_4 (of_decide_eq_true g11) (so_n26 rfl) dX1_given_31 ?_
          refine jr_call (st := [.int v1]) lk_X1_134 (wJ12_min f2 (so_I S r10 1) S rfl) jk_r0 rfl rfl (so_le rfl) (so_le rfl) dX1_given_34 ?_
          refine jr_goto (tgt := 41) dX1_given_37 rfl ?_
          refine jr_sub [0, 1, 2, 4] rfl ?_
          exact hJ7 (fJ12_min f2 (so_I S r10 1)) hf
def fX1_given (a0 : Nat) (a1 : Int32) (a2 : Int32) (S : so_St) : Option Int32 :=
  LX1_given_5 a0 a1 a2 S so_N (0 : Int32) (0 : Int32)
set_option maxHeartbeats 4000000 in
set_option maxRecDepth 100000 in
theorem wX1_given {res : Int32}  (a0 : Nat) (a1 : Int32) (a2 : Int32)  (S : so_St) (k_a0 : a0 % 64 ∈ [0]) (hf : fX1_given a0 a1 a2 S = some res) : jx_Sp 4 yX1_given (ws_ yX1_given cX1_given 5 (Option.some Jvm.ClassFile.FieldType.int)) [.ref a0, .int a1, .int a2] S (.inl (some (.int res))) S := by
  refine jx_of (plainFor_of_name (by decide)) (so_le rfl) ?_
  show jg_ (S, S, .inl (some (.int res))) kX1_given 0 [(0, .ref a0), (1, .int a1), (2, .int a2)] [] S
  unfold fX1_given at hf
  refine jr_iconst dX1_given_0 ic_0 ?_
  refine jr_istore_n (lv' := [(0, .ref a0), (1, .int a1), (2, .int a2), (3, .int (0 : Int32))]) dX1_given_1 rfl (so_le rfl) rfl ?_
  refine jr_iconst dX1_given_2 ic_0 ?_
  refine jr_istore (lv' := [(0, .ref a0), (1, .int a1), (2, .int a2), (3, .int (0 : Int32)), (4, .int (0 : Int32))]) dX1_given_3 (so_le rfl) rfl ?_
  refine wX1_given_5 a0 a1 a2 S k_a0 so_N (0 : Int32) (0 : Int32) hf

/- X1_share -/
abbrev kX1_share : jx_K := (cX1_share, 5, RX1, 8, (Option.some Jvm.ClassFile.FieldType.int), "share", [])
def LX1_share_41 (f0 : Nat) (f1 : Int32) (f2 : Int32) (f3 : Int32) (k67 : Int32 → so_St → Option ((Int32 ⊕ Nat) × so_St)) : Nat → Int32 → so_St → Option ((Int32 ⊕ Nat) × so_St)
  | 0, _, _ => none
  | n + 1, v15, S16 =>
    if (9 : Int32) ≤ v15 then
    (k67 v15 S16)
    else
    ((fX1_given f0 f2 (v15 + (1 : Int32)) S16).bind fun r19 =>
    if f3 < r19 then
    (k67 v15 S16)
    else
    (LX1_share_41 f0 f1 f2 f3 k67 n (v15 + (1 : Int32)) S16))
set_option maxHeartbeats 4000000 in
set_option maxRecDepth 100000 in
theorem wX1_share_41 {res : Int32 ⊕ Nat} {S' : so_St} {S0 : so_St}   (f0 : Nat) (f1 : Int32) (f2 : Int32) (f3 : Int32)   (k_f0 : f0 % 64 ∈ [0]) (k67 : Int32 → so_St → Option ((Int32 ⊕ Nat) × so_St)) (h67 : ∀ (v21 : Int32) (S22 : so_St), k67 v21 S22 = some (res, S') → jg_ (S0, S', so_oi res) kX1_share 67 [(0, .ref f0), (1, .int f1), (2, .int f2), (4, .int v21)] [] S22) : ∀ (n : Nat) (v15 : Int32) (S16 : so_St), LX1_share_41 f0 f1 f2 f3 k67 n v15 S16 = some (res, S') → jg_ (S0, S', so_oi res) kX1_share 41 [(0, .ref f0), (1, .int f1), (2, .int f2), (3, .int f3), (4, .int v15)] [] S16 := by
  intro n
  induction n with
  | zero =>
    intro v15 S16 hf
    exact so_no hf
  | succ n ih =>
    intro v15 S16 hf
    rw [LX1_share_41] at hf
    refine jr_iload dX1_share_41 rfl ?_
    refine jr_bipush dX1_share_43 bp_9 ?_
    refine jr_icmp_ge (tgt := 67) dX1_share_45 rfl (fun c17 => ?_) (fun c17 => ?_)
    · have hf := so_t c17 hf
      refine jr_sub [0, 1, 2, 4] rfl ?_
      exact h67 v15 S16 hf
    · have hf := so_f c17 hf
      refine jr_aload_n dX1_share_48 rfl rfl jv_rr ?_
      refine jr_iload_n dX1_share_49 rfl rfl ?_
      refine jr_iload dX1_share_50 rfl ?_
      refine jr_iconst dX1_share_52 ic_1 ?_
      refine jr_iadd dX1_share_53 ?_
      obtain ⟨r19, h18, hf⟩ := so_b hf
      refine jr_callM (st := []) lk_X1_396_0 (wX1_given f0 f2 (v15 + (1 : Int32)) S16 k_f0 h18) k_f0 rfl rfl rfl (so_le rfl) (so_le rfl) dX1_share_54 ?_
      refine jr_iload_n dX1_share_57 rfl rfl ?_
      refine jr_icmp_gt (tgt := 67) dX1_share_58 rfl (fun c20 => ?_) (fun c20 => ?_)
      · have hf := so_t c20 hf
        refine jr_sub [0, 1, 2, 4] rfl ?_
        exact h67 v15 S16 hf
      · have hf := so_f c20 hf
        refine jr_iinc (v := v15 + (1 : Int32)) (lv' := [(0, .ref f0), (1, .int f1), (2, .int f2), (3, .int f3), (4, .int (v15 + (1 : Int32)))]) dX1_share_61 rfl rfl (so_le rfl) rfl ?_
        refine jr_goto (tgt := 41) dX1_share_64 rfl ?_
        exact ih (v15 + (1 : Int32)) S16 hf
def fX1_share (a0 : Nat) (a1 : Int32) (a2 : Int32) (a3 : Int32) (S : so_St) : Option ((Int32 ⊕ Nat) × so_St) :=
  so_b3 (fX1_needPiano a0 a1 S) (fun r1 S2 =>
  so_j (κ := Int32 → Option ((Int32 ⊕ Nat) × so_St)) (ρ := Option ((Int32 ⊕ Nat) × so_St)) (fun (v7 : Int32) =>
  so_b3 (fX1_need a0 v7 S2) (fun r9 S10 =>
  LX1_share_41 a0 a1 a2 a3 (fun (v23 : Int32) (S24 : so_St) =>
  if (fX1_has a2 a1) = (0 : Int32) then
  (some (.inl (0 : Int32), S24))
  else
  ((fX1_pianoOf a0 a1 S24).bind fun r27 =>
  so_gd (decide (r27 % 64 ∈ [4])) fun _ =>
  some (.inl (fJ12_min v23 (so_I S24 r27 1)), S24))) so_N (0 : Int32) S10)
  (fun x11 S12 =>
  so_gd (decide (x11 % 64 ∈ [27])) fun _ =>
  some (.inr x11, S12)))
  (fun J8 =>
  so_j (κ := Unit → Option ((Int32 ⊕ Nat) × so_St)) (ρ := Option ((Int32 ⊕ Nat) × so_St)) (fun (_u : Unit) =>
  J8 (0 : Int32))
  (fun J29 =>
  if a2 < (0 : Int32) then
  (J29 ())
  else
  ((fX1_pianos a0 S2).bind fun r32 =>
  if ((1 : Int32) <<< (r32 &&& 31)) ≤ a2 then
  (J29 ())
  else
  (if (fX1_isIn a3 (0 : Int32) (99 : Int32)) = (0 : Int32) then
  (J29 ())
  else
  (J8 (1 : Int32)))))))
  (fun x3 S4 =>
  so_gd (decide (x3 % 64 ∈ [28])) fun _ =>
  some (.inr x3, S4))
set_option maxHeartbeats 4000000 in
set_option maxRecDepth 100000 in
theorem wX1_share {res : Int32 ⊕ Nat} {S' : so_St}  (a0 : Nat) (a1 : Int32) (a2 : Int32) (a3 : Int32)  (S : so_St) (k_a0 : a0 % 64 ∈ [0]) (hf : fX1_share a0 a1 a2 a3 S = some (res, S')) : jx_Sp 8 yX1_share (ws_ yX1_share cX1_share 5 (Option.some Jvm.ClassFile.FieldType.int)) [.ref a0, .int a1, .int a2, .int a3] S (so_oi res) S' := by
  refine jx_of (plainFor_of_name (by decide)) (so_le rfl) ?_
  show jg_ (S, S', so_oi res) kX1_share 0 [(0, .ref a0), (1, .int a1), (2, .int a2), (3, .int a3)] [] S
  unfold fX1_share at hf
  refine jr_aload_n dX1_share_0 rfl rfl jv_rr ?_
  refine jr_iload_n dX1_share_1 rfl rfl ?_
  rcases so_b3E hf with ⟨r1, S2, h5, hf⟩ | ⟨x3, S4, h5, hf⟩
  · refine jr_callM (st := []) lk_X1_305_0 (wX1_needPiano a0 a1 S k_a0 h5) k_a0 rfl rfl rfl (so_le rfl) (so_le rfl) dX1_share_2 ?_
    refine jr_aload_n dX1_share_5 rfl rfl jv_rr ?_
    refine jr_iload_n dX1_share_6 rfl rfl ?_
    refine so_jE hf (fun J => ∀ (v7 : Int32), J v7 = some (res, S') → jg_ (S, S', so_oi res) kX1_share 35 [(0, .ref a0), (1, .int a1), (2, .int a2), (3, .int a3)] [.int v7, .ref a0] S2) (fun v7 hf => ?_) (fun J8 hJ8 hf => ?_)
    · rcases so_b3E hf with ⟨r9, S10, h13, hf⟩ | ⟨x11, S12, h13, hf⟩
      · refine jr_callM (st := []) lk_X1_172_0 (wX1_need a0 v7 S2 k_a0 h13) k_a0 rfl rfl rfl (so_le rfl) (so_le rfl) dX1_share_35 ?_
        refine jr_iconst dX1_share_38 ic_0 ?_
        refine jr_istore (lv' := [(0, .ref a0), (1, .int a1), (2, .int a2), (3, .int a3), (4, .int (0 : Int32))]) dX1_share_39 (so_le rfl) rfl ?_
        refine wX1_share_41 a0 a1 a2 a3 k_a0 _ (fun v23 S24 hf => ?_) so_N (0 : Int32) S10 hf
        refine jr_iload_n dX1_share_67 rfl rfl ?_
        refine jr_iload_n dX1_share_68 rfl rfl ?_
        refine jr_call (st := []) lk_X1_349 (wX1_has a2 a1 S24 rfl) jk_r0 rfl rfl (so_le rfl) (so_le rfl) dX1_share_69 ?_
        refine jr_if_eq (tgt := 91) dX1_share_72 rfl (fun c25 => ?_) (fun c25 => ?_)
        · have hf := so_t c25 hf
          refine jr_iconst dX1_share_91 ic_0 ?_
          obtain ⟨rfl, rfl⟩ := so_e2 hf
          exact jr_iret rfl rfl dX1_share_92
        · have hf := so_f c25 hf
          refine jr_iload dX1_share_75 rfl ?_
          refine jr_aload_n dX1_share_77 rfl rfl jv_rr ?_
          refine jr_iload_n dX1_share_78 rfl rfl ?_
          obtain ⟨r27, h26, hf⟩ := so_b hf
          obtain ⟨g28, hf⟩ := so_gdE hf
          refine jr_callM (st := [.int v23]) lk_X1_308_0 (wX1_pianoOf a0 a1 S24 k_a0 h26) k_a0 rfl rfl rfl (so_le rfl) (so_le rfl) dX1_share_79 ?_
          refine jr_getI fl_X1_314_4 (of_decide_eq_true g28) (so_n26 rfl) dX1_share_82 ?_
          refine jr_call (st := []) lk_X1_134 (wJ12_min v23 (so_I S24 r27 1) S24 rfl) jk_r0 rfl rfl (so_le rfl) (so_le rfl) dX1_share_85 ?_
          refine jr_goto (tgt := 92) dX1_share_88 rfl ?_
          obtain ⟨rfl, rfl⟩ := so_e2 hf
          exact jr_iret rfl rfl dX1_share_92
      · refine jr_callMX (st := []) lk_X1_172_0 (wX1_need a0 v7 S2 k_a0 h13) k_a0 rfl rfl rfl (so_le rfl) (so_le rfl) dX1_share_35 ?_
        obtain ⟨g14, hf⟩ := so_gdE hf
        obtain ⟨rfl, rfl⟩ := so_e2 hf
        exact jr_out (so_l29 (of_decide_eq_true g14) rfl).1 (so_l29 (of_decide_eq_true g14) rfl).2 rfl
    · refine so_jE hf (fun J => ∀ (u0 : Unit), J u0 = some (res, S') → jg_ (S, S', so_oi res) kX1_share 34 [(0, .ref a0), (1, .int a1), (2, .int a2), (3, .int a3)] [.ref a0] S2) (fun _u hf => ?_) (fun J29 hJ29 hf => ?_)
      · refine jr_iconst dX1_share_34 ic_0 ?_
        exact hJ8 (0 : Int32) hf
      · refine jr_if_lt (tgt := 34) dX1_share_7 rfl (fun c30 => ?_) (fun c30 => ?_)
        · have hf := so_t c30 hf
          exact hJ29 () hf
        · have hf := so_f c30 hf
          refine jr_iload_n dX1_share_10 rfl rfl ?_
          refine jr_iconst dX1_share_11 ic_1 ?_
          refine jr_aload_n dX1_share_12 rfl rfl jv_rr ?_
          obtain ⟨r32, h31, hf⟩ := so_b hf
          refine jr_callM (st := [.int (1 : Int32), .int a2, .ref a0]) lk_X1_156_0 (wX1_pianos a0 S2 k_a0 h31) k_a0 rfl rfl rfl (so_le rfl) (so_le rfl) dX1_share_13 ?_
          refine jr_ishl dX1_share_16 ?_
          refine jr_icmp_ge (tgt := 34) dX1_share_17 rfl (fun c33 => ?_) (fun c33 => ?_)
          · have hf := so_t c33 hf
            exact hJ29 () hf
          · have hf := so_f c33 hf
            refine jr_iload_n dX1_share_20 rfl rfl ?_
            refine jr_iconst dX1_share_21 ic_0 ?_
            refine jr_bipush dX1_share_22 bp_99 ?_
            refine jr_call (st := [.ref a0]) lk_X1_246 (wX1_isIn a3 (0 : Int32) (99 : Int32) S2 rfl) jk_r0 rfl rfl (so_le rfl) (so_le rfl) dX1_share_24 ?_
            refine jr_if_eq (tgt := 34) dX1_share_27 rfl (fun c34 => ?_) (fun c34 => ?_)
            · have hf := so_t c34 hf
              exact hJ29 () hf
            · have hf := so_f c34 hf
              refine jr_iconst dX1_share_30 ic_1 ?_
              refine jr_goto (tgt := 35) dX1_share_31 rfl ?_
              exact hJ8 (1 : Int32) hf
  · refine jr_callMX (st := []) lk_X1_305_0 (wX1_needPiano a0 a1 S k_a0 h5) k_a0 rfl rfl rfl (so_le rfl) (so_le rfl) dX1_share_2 ?_
    obtain ⟨g6, hf⟩ := so_gdE hf
    obtain ⟨rfl, rfl⟩ := so_e2 hf
    exact jr_out (so_l29 (of_decide_eq_true g6) rfl).1 (so_l29 (of_decide_eq_true g6) rfl).2 rfl

/- X0_share -/
abbrev kX0_share : jx_K := (cX0_share, 6, RX0, 9, (Option.some Jvm.ClassFile.FieldType.int), "share", tableOf [(0, 12, 15, 31), (0, 12, 19, 13)])
def fX0_share (a0 : Nat) (a1 : Int32) (a2 : Int32) (a3 : Int32) (a4 : Nat) (S : so_St) : Option (Int32 × so_St) :=
  so_b3 (fX1_share a0 a1 a2 a3 S) (fun r1 S2 =>
  so_gd (so_in (0 : Int32) (so_l S2 a4)) fun _ =>
  so_let (so_sL S2 a4 (0 : Int32).toNatClampNeg r1.toInt64) fun S9 =>
  some ((0 : Int32), S9))
  (fun x3 S4 =>
  if x3 % 64 = 27 then
  (some ((2 : Int32), S4))
  else
  if x3 % 64 = 28 then
  (some ((1 : Int32), S4))
  else
  none)
set_option maxHeartbeats 4000000 in
set_option maxRecDepth 100000 in
theorem wX0_share {res : Int32} {S' : so_St}  (a0 : Nat) (a1 : Int32) (a2 : Int32) (a3 : Int32) (a4 : Nat)  (S : so_St) (k_a0 : a0 % 64 ∈ [0]) (k_a4 : a4 % 64 ∈ [53]) (hf : fX0_share a0 a1 a2 a3 a4 S = some (res, S')) : jx_Sp 9 yX0_share (wsW_ yX0_share cX0_share 6 (Option.some Jvm.ClassFile.FieldType.int) [(0, 12, 15, 31), (0, 12, 19, 13)]) [.ref a0, .int a1, .int a2, .int a3, .ref a4] S (.inl (some (.int res))) S' := by
  refine jx_ofW (by decide) (so_le rfl) ?_
  show jg_ (S, S', .inl (some (.int res))) kX0_share 0 [(0, .ref a0), (1, .int a1), (2, .int a2), (3, .int a3), (4, .ref a4)] [] S
  unfold fX0_share at hf
  refine jr_aload dX0_share_0 rfl jv_rr ?_
  refine jr_iconst dX0_share_2 ic_0 ?_
  refine jr_aload_n dX0_share_3 rfl rfl jv_rr ?_
  refine jr_iload_n dX0_share_4 rfl rfl ?_
  refine jr_iload_n dX0_share_5 rfl rfl ?_
  refine jr_iload_n dX0_share_6 rfl rfl ?_
  rcases so_b3E hf with ⟨r1, S2, h5, hf⟩ | ⟨x3, S4, h5, hf⟩
  · refine jr_callM (st := [.int (0 : Int32), .ref a4]) lk_X0_75_0 (wX1_share a0 a1 a2 a3 S k_a0 h5) k_a0 rfl rfl rfl (so_le rfl) (so_le rfl) dX0_share_7 ?_
    refine jr_i2l dX0_share_10 ?_
    obtain ⟨g8, hf⟩ := so_gdE hf
    refine jr_lastore (so_m1 k_a4) (so_inE g8) dX0_share_11 ?_
    refine so_let_e hf (fun S9 hf => ?_)
    refine jr_goto (tgt := 23) dX0_share_12 rfl ?_
    refine jr_iconst dX0_share_23 ic_0 ?_
    obtain ⟨rfl, rfl⟩ := so_e2 hf
    exact jr_iret rfl rfl dX0_share_24
  · refine jr_callMX (st := [.int (0 : Int32), .ref a4]) lk_X0_75_0 (wX1_share a0 a1 a2 a3 S k_a0 h5) k_a0 rfl rfl rfl (so_le rfl) (so_le rfl) dX0_share_7 ?_
    by_cases c6 : x3 % 64 = 27
    · have hf := so_t c6 hf
      refine jr_catch (by rw [c6]; decide) (by rw [c6]; decide) [(⟨0, 12, 15, 31⟩ : ExceptionTableEntry)] ⟨0, 12, 19, 13⟩ [] rfl (List.forall_mem_cons.mpr ⟨Or.inr ⟨by decide, c6, q1698⟩, fun _ h => by cases h⟩) rfl (by decide) q863 (by rw [c6]; exact q181) ?_
      refine jr_astore (lv' := [(0, .ref a0), (1, .int a1), (2, .int a2), (3, .int a3), (4, .ref a4), (5, .ref x3)]) dX0_share_19 (so_le rfl) jv_rr rfl ?_
      refine jr_iconst dX0_share_21 ic_2 ?_
      obtain ⟨rfl, rfl⟩ := so_e2 hf
      exact jr_iret rfl rfl dX0_share_22
    · have hf := so_f c6 hf
      by_cases c7 : x3 % 64 = 28
      · have hf := so_t c7 hf
        refine jr_catch (by rw [c7]; decide) (by rw [c7]; decide) [] ⟨0, 12, 15, 31⟩ [(⟨0, 12, 19, 13⟩ : ExceptionTableEntry)] rfl (fun _ h => by cases h) rfl (by decide) q1698 (by rw [c7]; exact q1713) ?_
        refine jr_astore (lv' := [(0, .ref a0), (1, .int a1), (2, .int a2), (3, .int a3), (4, .ref a4), (5, .ref x3)]) dX0_share_15 (so_le rfl) jv_rr rfl ?_
        refine jr_iconst dX0_share_17 ic_1 ?_
        obtain ⟨rfl, rfl⟩ := so_e2 hf
        exact jr_iret rfl rfl dX0_share_18
      · have hf := so_f c7 hf
        exact so_no hf

/- X1_those -/
abbrev kX1_those : jx_K := (cX1_those, 4, RX1, 7, (Option.some Jvm.ClassFile.FieldType.int), "those", [])
def LX1_those_12 (f0 : Nat) (f1 : Int32) : Nat → Int32 → Int32 → so_St → Option ((Int32 ⊕ Nat) × so_St)
  | 0, _, _, _ => none
  | n + 1, v7, v8, S9 =>
    (so_rk (so_R S9 f0 0) [1]).bind fun p10 =>
    if (so_I S9 p10 6) ≤ v8 then
    (some (.inl v7, S9))
    else
    ((so_rk (so_R S9 f0 5) [22]).bind fun p13 =>
    (fX7_is p13 v8 S9).bind fun r16 =>
    so_j (κ := Int32 → Option ((Int32 ⊕ Nat) × so_St)) (ρ := Option ((Int32 ⊕ Nat) × so_St)) (fun (v17 : Int32) =>
    LX1_those_12 f0 f1 n (v7 ||| v17) (v8 + (1 : Int32)) S9)
    (fun J18 =>
    if r16 = f1 then
    (J18 ((1 : Int32) <<< (v8 &&& 31)))
    else
    (J18 (0 : Int32))))
set_option maxHeartbeats 4000000 in
set_option maxRecDepth 100000 in
theorem wX1_those_12 {res : Int32 ⊕ Nat} {S' : so_St} {S0 : so_St}   (f0 : Nat) (f1 : Int32)   (k_f0 : f0 % 64 ∈ [0]) : ∀ (n : Nat) (v7 : Int32) (v8 : Int32) (S9 : so_St), LX1_those_12 f0 f1 n v7 v8 S9 = some (res, S') → jg_ (S0, S', so_oi res) kX1_those 12 [(0, .ref f0), (1, .int f1), (2, .int v7), (3, .int v8)] [] S9 := by
  intro n
  induction n with
  | zero =>
    intro v7 v8 S9 hf
    exact so_no hf
  | succ n ih =>
    intro v7 v8 S9 hf
    rw [LX1_those_12] at hf
    refine jr_iload_n dX1_those_12 rfl rfl ?_
    refine jr_aload_n dX1_those_13 rfl rfl jv_rr ?_
    refine jr_getR fl_X1_22_0 k_f0 (so_n26 rfl) dX1_those_14 ?_
    obtain ⟨p10, h11, hf⟩ := so_b hf
    obtain ⟨h11, k_p10⟩ := so_rk_s h11
    refine jr_rf h11 ?_
    refine jr_getI fl_X1_149_1 k_p10 (so_n26 rfl) dX1_those_17 ?_
    refine jr_icmp_ge (tgt := 51) dX1_those_20 rfl (fun c12 => ?_) (fun c12 => ?_)
    · have hf := so_t c12 hf
      refine jr_iload_n dX1_those_51 rfl rfl ?_
      obtain ⟨rfl, rfl⟩ := so_e2 hf
      exact jr_iret rfl rfl dX1_those_52
    · have hf := so_f c12 hf
      refine jr_iload_n dX1_those_23 rfl rfl ?_
      refine jr_aload_n dX1_those_24 rfl rfl jv_rr ?_
      refine jr_getR fl_X1_49_0 k_f0 (so_n26 rfl) dX1_those_25 ?_
      obtain ⟨p13, h14, hf⟩ := so_b hf
      obtain ⟨h14, k_p13⟩ := so_rk_s h14
      refine jr_rf h14 ?_
      refine jr_iload_n dX1_those_28 rfl rfl ?_
      obtain ⟨r16, h15, hf⟩ := so_b hf
      refine jr_callM (st := [.int v7]) lk_X1_277_22 (wX7_is p13 v8 S9 k_p13 h15) k_p13 rfl rfl rfl (so_le rfl) (so_le rfl) dX1_those_29 ?_
      refine jr_iload_n dX1_those_32 rfl rfl ?_
      refine so_jE hf (fun J => ∀ (v17 : Int32), J v17 = some (res, S') → jg_ (S0, S', so_oi res) kX1_those 43 [(0, .ref f0), (1, .int f1), (3, .int v8)] [.int v17, .int v7] S9) (fun v17 hf => ?_) (fun J18 hJ18 hf => ?_)
      · refine jr_ior dX1_those_43 ?_
        refine jr_istore_n (lv' := [(0, .ref f0), (1, .int f1), (2, .int (v7 ||| v17)), (3, .int v8)]) dX1_those_44 rfl (so_le rfl) rfl ?_
        refine jr_iinc (v := v8 + (1 : Int32)) (lv' := [(0, .ref f0), (1, .int f1), (2, .int (v7 ||| v17)), (3, .int (v8 + (1 : Int32)))]) dX1_those_45 rfl rfl (so_le rfl) rfl ?_
        refine jr_goto (tgt := 12) dX1_those_48 rfl ?_
        exact ih (v7 ||| v17) (v8 + (1 : Int32)) S9 hf
      · refine jr_icmp_ne (tgt := 42) dX1_those_33 rfl (fun c19 => ?_) (fun c19 => ?_)
        · have hf := so_f c19 hf
          refine jr_iconst dX1_those_42 ic_0 ?_
          refine jr_sub [0, 1, 3] rfl ?_
          exact hJ18 (0 : Int32) hf
        · have hf := so_t c19 hf
          refine jr_iconst dX1_those_36 ic_1 ?_
          refine jr_iload_n dX1_those_37 rfl rfl ?_
          refine jr_ishl dX1_those_38 ?_
          refine jr_goto (tgt := 43) dX1_those_39 rfl ?_
          refine jr_sub [0, 1, 3] rfl ?_
          exact hJ18 ((1 : Int32) <<< (v8 &&& 31)) hf
def fX1_those (a0 : Nat) (a1 : Int32) (S : so_St) : Option ((Int32 ⊕ Nat) × so_St) :=
  so_b3 (fX1_need a0 (fX1_isThing a1) S) (fun r1 S2 =>
  LX1_those_12 a0 a1 so_N (0 : Int32) (0 : Int32) S2)
  (fun x3 S4 =>
  so_gd (decide (x3 % 64 ∈ [27])) fun _ =>
  some (.inr x3, S4))
set_option maxHeartbeats 4000000 in
set_option maxRecDepth 100000 in
theorem wX1_those {res : Int32 ⊕ Nat} {S' : so_St}  (a0 : Nat) (a1 : Int32)  (S : so_St) (k_a0 : a0 % 64 ∈ [0]) (hf : fX1_those a0 a1 S = some (res, S')) : jx_Sp 7 yX1_those (ws_ yX1_those cX1_those 4 (Option.some Jvm.ClassFile.FieldType.int)) [.ref a0, .int a1] S (so_oi res) S' := by
  refine jx_of (plainFor_of_name (by decide)) (so_le rfl) ?_
  show jg_ (S, S', so_oi res) kX1_those 0 [(0, .ref a0), (1, .int a1)] [] S
  unfold fX1_those at hf
  refine jr_aload_n dX1_those_0 rfl rfl jv_rr ?_
  refine jr_iload_n dX1_those_1 rfl rfl ?_
  refine jr_call (st := [.ref a0]) lk_X1_292 (wX1_isThing a1 S rfl) jk_r0 rfl rfl (so_le rfl) (so_le rfl) dX1_those_2 ?_
  rcases so_b3E hf with ⟨r1, S2, h5, hf⟩ | ⟨x3, S4, h5, hf⟩
  · refine jr_callM (st := []) lk_X1_172_0 (wX1_need a0 (fX1_isThing a1) S k_a0 h5) k_a0 rfl rfl rfl (so_le rfl) (so_le rfl) dX1_those_5 ?_
    refine jr_iconst dX1_those_8 ic_0 ?_
    refine jr_istore_n (lv' := [(0, .ref a0), (1, .int a1), (2, .int (0 : Int32))]) dX1_those_9 rfl (so_le rfl) rfl ?_
    refine jr_iconst dX1_those_10 ic_0 ?_
    refine jr_istore_n (lv' := [(0, .ref a0), (1, .int a1), (2, .int (0 : Int32)), (3, .int (0 : Int32))]) dX1_those_11 rfl (so_le rfl) rfl ?_
    refine wX1_those_12 a0 a1 k_a0 so_N (0 : Int32) (0 : Int32) S2 hf
  · refine jr_callMX (st := []) lk_X1_172_0 (wX1_need a0 (fX1_isThing a1) S k_a0 h5) k_a0 rfl rfl rfl (so_le rfl) (so_le rfl) dX1_those_5 ?_
    obtain ⟨g6, hf⟩ := so_gdE hf
    obtain ⟨rfl, rfl⟩ := so_e2 hf
    exact jr_out (so_l29 (of_decide_eq_true g6) rfl).1 (so_l29 (of_decide_eq_true g6) rfl).2 rfl

/- X0_those -/
abbrev kX0_those : jx_K := (cX0_those, 4, RX0, 8, (Option.some Jvm.ClassFile.FieldType.int), "those", tableOf [(0, 9, 12, 13)])
def fX0_those (a0 : Nat) (a1 : Int32) (a2 : Nat) (S : so_St) : Option (Int32 × so_St) :=
  so_b3 (fX1_those a0 a1 S) (fun r1 S2 =>
  so_gd (so_in (0 : Int32) (so_l S2 a2)) fun _ =>
  so_let (so_sL S2 a2 (0 : Int32).toNatClampNeg r1.toInt64) fun S8 =>
  some ((0 : Int32), S8))
  (fun x3 S4 =>
  if x3 % 64 = 27 then
  (some ((1 : Int32), S4))
  else
  none)
set_option maxHeartbeats 4000000 in
set_option maxRecDepth 100000 in
theorem wX0_those {res : Int32} {S' : so_St}  (a0 : Nat) (a1 : Int32) (a2 : Nat)  (S : so_St) (k_a0 : a0 % 64 ∈ [0]) (k_a2 : a2 % 64 ∈ [53]) (hf : fX0_those a0 a1 a2 S = some (res, S')) : jx_Sp 8 yX0_those (wsW_ yX0_those cX0_those 4 (Option.some Jvm.ClassFile.FieldType.int) [(0, 9, 12, 13)]) [.ref a0, .int a1, .ref a2] S (.inl (some (.int res))) S' := by
  refine jx_ofW (by decide) (so_le rfl) ?_
  show jg_ (S, S', .inl (some (.int res))) kX0_those 0 [(0, .ref a0), (1, .int a1), (2, .ref a2)] [] S
  unfold fX0_those at hf
  refine jr_aload_n dX0_those_0 rfl rfl jv_rr ?_
  refine jr_iconst dX0_those_1 ic_0 ?_
  refine jr_aload_n dX0_those_2 rfl rfl jv_rr ?_
  refine jr_iload_n dX0_those_3 rfl rfl ?_
  rcases so_b3E hf with ⟨r1, S2, h5, hf⟩ | ⟨x3, S4, h5, hf⟩
  · refine jr_callM (st := [.int (0 : Int32), .ref a2]) lk_X0_78_0 (wX1_those a0 a1 S k_a0 h5) k_a0 rfl rfl rfl (so_le rfl) (so_le rfl) dX0_those_4 ?_
    refine jr_i2l dX0_those_7 ?_
    obtain ⟨g7, hf⟩ := so_gdE hf
    refine jr_lastore (so_m1 k_a2) (so_inE g7) dX0_those_8 ?_
    refine so_let_e hf (fun S8 hf => ?_)
    refine jr_goto (tgt := 15) dX0_those_9 rfl ?_
    refine jr_iconst dX0_those_15 ic_0 ?_
    obtain ⟨rfl, rfl⟩ := so_e2 hf
    exact jr_iret rfl rfl dX0_those_16
  · refine jr_callMX (st := [.int (0 : Int32), .ref a2]) lk_X0_78_0 (wX1_those a0 a1 S k_a0 h5) k_a0 rfl rfl rfl (so_le rfl) (so_le rfl) dX0_those_4 ?_
    by_cases c6 : x3 % 64 = 27
    · have hf := so_t c6 hf
      refine jr_catch (by rw [c6]; decide) (by rw [c6]; decide) [] ⟨0, 9, 12, 13⟩ [] rfl (fun _ h => by cases h) rfl (by decide) q863 (by rw [c6]; exact q181) ?_
      refine jr_astore_n (lv' := [(0, .ref a0), (1, .int a1), (2, .ref a2), (3, .ref x3)]) dX0_those_12 rfl (so_le rfl) jv_rr rfl ?_
      refine jr_iconst dX0_those_13 ic_1 ?_
      obtain ⟨rfl, rfl⟩ := so_e2 hf
      exact jr_iret rfl rfl dX0_those_14
    · have hf := so_f c6 hf
      exact so_no hf

/- X1_loudest -/
abbrev kX1_loudest : jx_K := (cX1_loudest, 4, RX1, 1204, (Option.some Jvm.ClassFile.FieldType.int), "loudest", [])
def LX1_loudest_12 (f0 : Nat) (f1 : Int32) (k65 : Int32 → so_St → Option ((Int32 ⊕ Nat) × so_St)) : Nat → Int32 → Int32 → so_St → Option ((Int32 ⊕ Nat) × so_St)
  | 0, _, _, _ => none
  | n + 1, v7, v8, S9 =>
    (fX1_pianos f0 S9).bind fun r11 =>
    if r11 ≤ v8 then
    (k65 v7 S9)
    else
    ((so_rk (so_R S9 f0 5) [22]).bind fun p13 =>
    (so_rk (so_R S9 p13 0) [50]).bind fun p15 =>
    so_gd (so_in v8 (so_l S9 p15)) fun _ =>
    so_j (κ := Int32 → so_St → Option ((Int32 ⊕ Nat) × so_St)) (ρ := Option ((Int32 ⊕ Nat) × so_St)) (fun (v18 : Int32) (S19 : so_St) =>
    LX1_loudest_12 f0 f1 k65 n v18 (v8 + (1 : Int32)) S19)
    (fun J20 =>
    if (so_I S9 p15 v8.toNatClampNeg) = (-1 : Int32) then
    (J20 v7 S9)
    else
    (so_j (κ := so_St → Option ((Int32 ⊕ Nat) × so_St)) (ρ := Option ((Int32 ⊕ Nat) × so_St)) (fun (S22 : so_St) =>
    J20 v8 S22)
    (fun J23 =>
    if v7 = (-1 : Int32) then
    (J23 S9)
    else
    ((so_rk (so_R S9 f0 5) [22]).bind fun p25 =>
    so_b2 (fX7_force p25 v8 S9) fun r28 S29 =>
    (so_rk (so_R S29 f0 5) [22]).bind fun p30 =>
    so_b2 (fX7_force p30 v7 S29) fun r33 S34 =>
    if r28 ≤ r33 then
    (J20 v7 S34)
    else
    (J23 S34))))))
set_option maxHeartbeats 4000000 in
set_option maxRecDepth 100000 in
theorem wX1_loudest_12 {res : Int32 ⊕ Nat} {S' : so_St} {S0 : so_St}   (f0 : Nat) (f1 : Int32)   (k_f0 : f0 % 64 ∈ [0]) (k65 : Int32 → so_St → Option ((Int32 ⊕ Nat) × so_St)) (h65 : ∀ (v36 : Int32) (S37 : so_St), k65 v36 S37 = some (res, S') → jg_ (S0, S', so_oi res) kX1_loudest 65 [(0, .ref f0), (1, .int f1), (2, .int v36)] [] S37) : ∀ (n : Nat) (v7 : Int32) (v8 : Int32) (S9 : so_St), LX1_loudest_12 f0 f1 k65 n v7 v8 S9 = some (res, S') → jg_ (S0, S', so_oi res) kX1_loudest 12 [(0, .ref f0), (1, .int f1), (2, .int v7), (3, .int v8)] [] S9 := by
  intro n
  induction n with
  | zero =>
    intro v7 v8 S9 hf
    exact so_no hf
  | succ n ih =>
    intro v7 v8 S9 hf
    rw [LX1_loudest_12] at hf
    refine jr_iload_n dX1_loudest_12 rfl rfl ?_
    refine jr_aload_n dX1_loudest_13 rfl rfl jv_rr ?_
    obtain ⟨r11, h10, hf⟩ := so_b hf
    refine jr_callM (st := [.int v8]) lk_X1_156_0 (wX1_pianos f0 S9 k_f0 h10) k_f0 rfl rfl rfl (so_le rfl) (so_le rfl) dX1_loudest_14 ?_
    refine jr_icmp_ge (tgt := 65) dX1_loudest_17 rfl (fun c12 => ?_) (fun c12 => ?_)
    · have hf := so_t c12 hf
      refine jr_sub [0, 1, 2] rfl ?_
      exact h65 v7 S9 hf
    · have hf := so_f c12 hf
      refine jr_aload_n dX1_loudest_20 rfl rfl jv_rr ?_
      refine jr_getR fl_X1_49_0 k_f0 (so_n26 rfl) dX1_loudest_21 ?_
      obtain ⟨p13, h14, hf⟩ := so_b hf
      obtain ⟨h14, k_p13⟩ := so_rk_s h14
      refine jr_rf h14 ?_
      refine jr_getR fl_X1_239_22 k_p13 (so_n26 rfl) dX1_loudest_24 ?_
      obtain ⟨p15, h16, hf⟩ := so_b hf
      obtain ⟨h16, k_p15⟩ := so_rk_s h16
      refine jr_rf h16 ?_
      refine jr_iload_n dX1_loudest_27 rfl rfl ?_
      obtain ⟨g17, hf⟩ := so_gdE hf
      refine jr_iaload (so_m1 k_p15) (so_inE g17) dX1_loudest_28 ?_
      refine jr_iconst dX1_loudest_29 ic_m1 ?_
      refine so_jE hf (fun J => ∀ (v18 : Int32) (S19 : so_St), J v18 S19 = some (res, S') → jg_ (S0, S', so_oi res) kX1_loudest 59 [(0, .ref f0), (1, .int f1), (2, .int v18), (3, .int v8)] [] S19) (fun v18 S19 hf => ?_) (fun J20 hJ20 hf => ?_)
      · refine jr_iinc (v := v8 + (1 : Int32)) (lv' := [(0, .ref f0), (1, .int f1), (2, .int v18), (3, .int (v8 + (1 : Int32)))]) dX1_loudest_59 rfl rfl (so_le rfl) rfl ?_
        refine jr_goto (tgt := 12) dX1_loudest_62 rfl ?_
        exact ih v18 (v8 + (1 : Int32)) S19 hf
      · refine jr_icmp_eq (tgt := 59) dX1_loudest_30 rfl (fun c21 => ?_) (fun c21 => ?_)
        · have hf := so_t c21 hf
          exact hJ20 v7 S9 hf
        · have hf := so_f c21 hf
          refine jr_iload_n dX1_loudest_33 rfl rfl ?_
          refine jr_iconst dX1_loudest_34 ic_m1 ?_
          refine so_jE hf (fun J => ∀ (S22 : so_St), J S22 = some (res, S') → jg_ (S0, S', so_oi res) kX1_loudest 57 [(0, .ref f0), (1, .int f1), (3, .int v8)] [] S22) (fun S22 hf => ?_) (fun J23 hJ23 hf => ?_)
          · refine jr_iload_n dX1_loudest_57 rfl rfl ?_
            refine jr_istore_n (lv' := [(0, .ref f0), (1, .int f1), (2, .int v8), (3, .int v8)]) dX1_loudest_58 rfl (so_le rfl) rfl ?_
            exact hJ20 v8 S22 hf
          · refine jr_icmp_eq (tgt := 57) dX1_loudest_35 rfl (fun c24 => ?_) (fun c24 => ?_)
            · have hf := so_t c24 hf
              refine jr_sub [0, 1, 3] rfl ?_
              exact hJ23 S9 hf
            · have hf := so_f c24 hf
              refine jr_aload_n dX1_loudest_38 rfl rfl jv_rr ?_
              refine jr_getR fl_X1_49_0 k_f0 (so_n26 rfl) dX1_loudest_39 ?_
              obtain ⟨p25, h26, hf⟩ := so_b hf
              obtain ⟨h26, k_p25⟩ := so_rk_s h26
              refine jr_rf h26 ?_
              refine jr_iload_n dX1_loudest_42 rfl rfl ?_
              obtain ⟨r28, S29, h27, hf⟩ := so_b2E hf
              refine jr_callM (st := []) lk_X1_323_22 (wX7_force p25 v8 S9 k_p25 h27) k_p25 rfl rfl rfl (so_le rfl) (so_le rfl) dX1_loudest_43 ?_
              refine jr_aload_n dX1_loudest_46 rfl rfl jv_rr ?_
              refine jr_getR fl_X1_49_0 k_f0 (so_n26 rfl) dX1_loudest_47 ?_
              obtain ⟨p30, h31, hf⟩ := so_b hf
              obtain ⟨h31, k_p30⟩ := so_rk_s h31
              refine jr_rf h31 ?_
              refine jr_iload_n dX1_loudest_50 rfl rfl ?_
              obtain ⟨r33, S34, h32, hf⟩ := so_b2E hf
              refine jr_callM (st := [.int r28]) lk_X1_323_22 (wX7_force p30 v7 S29 k_p30 h32) k_p30 rfl rfl rfl (so_le rfl) (so_le rfl) dX1_loudest_51 ?_
              refine jr_icmp_le (tgt := 59) dX1_loudest_54 rfl (fun c35 => ?_) (fun c35 => ?_)
              · have hf := so_t c35 hf
                exact hJ20 v7 S34 hf
              · have hf := so_f c35 hf
                refine jr_sub [0, 1, 3] rfl ?_
                exact hJ23 S34 hf
def fX1_loudest (a0 : Nat) (a1 : Int32) (S : so_St) : Option ((Int32 ⊕ Nat) × so_St) :=
  so_b3 (fX1_need a0 (fX1_isPart a1) S) (fun r1 S2 =>
  LX1_loudest_12 a0 a1 (fun (v38 : Int32) (S39 : so_St) =>
  if a1 = (0 : Int32) then
  (some (.inl v38, S39))
  else
  (if v38 = (-1 : Int32) then
  (some (.inl v38, S39))
  else
  ((so_rk (so_R S39 a0 5) [22]).bind fun p42 =>
  so_b2 (fX7_force p42 v38 S39) fun r45 S46 =>
  some (.inl r45, S46)))) so_N (-1 : Int32) (0 : Int32) S2)
  (fun x3 S4 =>
  so_gd (decide (x3 % 64 ∈ [27])) fun _ =>
  some (.inr x3, S4))
set_option maxHeartbeats 4000000 in
set_option maxRecDepth 100000 in
theorem wX1_loudest {res : Int32 ⊕ Nat} {S' : so_St}  (a0 : Nat) (a1 : Int32)  (S : so_St) (k_a0 : a0 % 64 ∈ [0]) (hf : fX1_loudest a0 a1 S = some (res, S')) : jx_Sp 1204 yX1_loudest (ws_ yX1_loudest cX1_loudest 4 (Option.some Jvm.ClassFile.FieldType.int)) [.ref a0, .int a1] S (so_oi res) S' := by
  refine jx_of (plainFor_of_name (by decide)) (so_le rfl) ?_
  show jg_ (S, S', so_oi res) kX1_loudest 0 [(0, .ref a0), (1, .int a1)] [] S
  unfold fX1_loudest at hf
  refine jr_aload_n dX1_loudest_0 rfl rfl jv_rr ?_
  refine jr_iload_n dX1_loudest_1 rfl rfl ?_
  refine jr_call (st := [.ref a0]) lk_X1_296 (wX1_isPart a1 S rfl) jk_r0 rfl rfl (so_le rfl) (so_le rfl) dX1_loudest_2 ?_
  rcases so_b3E hf with ⟨r1, S2, h5, hf⟩ | ⟨x3, S4, h5, hf⟩
  · refine jr_callM (st := []) lk_X1_172_0 (wX1_need a0 (fX1_isPart a1) S k_a0 h5) k_a0 rfl rfl rfl (so_le rfl) (so_le rfl) dX1_loudest_5 ?_
    refine jr_iconst dX1_loudest_8 ic_m1 ?_
    refine jr_istore_n (lv' := [(0, .ref a0), (1, .int a1), (2, .int (-1 : Int32))]) dX1_loudest_9 rfl (so_le rfl) rfl ?_
    refine jr_iconst dX1_loudest_10 ic_0 ?_
    refine jr_istore_n (lv' := [(0, .ref a0), (1, .int a1), (2, .int (-1 : Int32)), (3, .int (0 : Int32))]) dX1_loudest_11 rfl (so_le rfl) rfl ?_
    refine wX1_loudest_12 a0 a1 k_a0 _ (fun v38 S39 hf => ?_) so_N (-1 : Int32) (0 : Int32) S2 hf
    refine jr_iload_n dX1_loudest_65 rfl rfl ?_
    refine jr_if_eq (tgt := 74) dX1_loudest_66 rfl (fun c40 => ?_) (fun c40 => ?_)
    · have hf := so_t c40 hf
      refine jr_iload_n dX1_loudest_74 rfl rfl ?_
      refine jr_goto (tgt := 86) dX1_loudest_75 rfl ?_
      obtain ⟨rfl, rfl⟩ := so_e2 hf
      exact jr_iret rfl rfl dX1_loudest_86
    · have hf := so_f c40 hf
      refine jr_iload_n dX1_loudest_69 rfl rfl ?_
      refine jr_iconst dX1_loudest_70 ic_m1 ?_
      refine jr_icmp_ne (tgt := 78) dX1_loudest_71 rfl (fun c41 => ?_) (fun c41 => ?_)
      · have hf := so_f c41 hf
        refine jr_aload_n dX1_loudest_78 rfl rfl jv_rr ?_
        refine jr_getR fl_X1_49_0 k_a0 (so_n26 rfl) dX1_loudest_79 ?_
        obtain ⟨p42, h43, hf⟩ := so_b hf
        obtain ⟨h43, k_p42⟩ := so_rk_s h43
        refine jr_rf h43 ?_
        refine jr_iload_n dX1_loudest_82 rfl rfl ?_
        obtain ⟨r45, S46, h44, hf⟩ := so_b2E hf
        refine jr_callM (st := []) lk_X1_323_22 (wX7_force p42 v38 S39 k_p42 h44) k_p42 rfl rfl rfl (so_le rfl) (so_le rfl) dX1_loudest_83 ?_
        obtain ⟨rfl, rfl⟩ := so_e2 hf
        exact jr_iret rfl rfl dX1_loudest_86
      · have hf := so_t c41 hf
        refine jr_iload_n dX1_loudest_74 rfl rfl ?_
        refine jr_goto (tgt := 86) dX1_loudest_75 rfl ?_
        obtain ⟨rfl, rfl⟩ := so_e2 hf
        exact jr_iret rfl rfl dX1_loudest_86
  · refine jr_callMX (st := []) lk_X1_172_0 (wX1_need a0 (fX1_isPart a1) S k_a0 h5) k_a0 rfl rfl rfl (so_le rfl) (so_le rfl) dX1_loudest_5 ?_
    obtain ⟨g6, hf⟩ := so_gdE hf
    obtain ⟨rfl, rfl⟩ := so_e2 hf
    exact jr_out (so_l29 (of_decide_eq_true g6) rfl).1 (so_l29 (of_decide_eq_true g6) rfl).2 rfl

/- X0_loudest -/
abbrev kX0_loudest : jx_K := (cX0_loudest, 4, RX0, 1205, (Option.some Jvm.ClassFile.FieldType.int), "loudest", tableOf [(0, 9, 12, 13)])
def fX0_loudest (a0 : Nat) (a1 : Int32) (a2 : Nat) (S : so_St) : Option (Int32 × so_St) :=
  so_b3 (fX1_loudest a0 a1 S) (fun r1 S2 =>
  so_gd (so_in (0 : Int32) (so_l S2 a2)) fun _ =>
  so_let (so_sL S2 a2 (0 : Int32).toNatClampNeg r1.toInt64) fun S8 =>
  some ((0 : Int32), S8))
  (fun x3 S4 =>
  if x3 % 64 = 27 then
  (some ((1 : Int32), S4))
  else
  none)
set_option maxHeartbeats 4000000 in
set_option maxRecDepth 100000 in
theorem wX0_loudest {res : Int32} {S' : so_St}  (a0 : Nat) (a1 : Int32) (a2 : Nat)  (S : so_St) (k_a0 : a0 % 64 ∈ [0]) (k_a2 : a2 % 64 ∈ [53]) (hf : fX0_loudest a0 a1 a2 S = some (res, S')) : jx_Sp 1205 yX0_loudest (wsW_ yX0_loudest cX0_loudest 4 (Option.some Jvm.ClassFile.FieldType.int) [(0, 9, 12, 13)]) [.ref a0, .int a1, .ref a2] S (.inl (some (.int res))) S' := by
  refine jx_ofW (by decide) (so_le rfl) ?_
  show jg_ (S, S', .inl (some (.int res))) kX0_loudest 0 [(0, .ref a0), (1, .int a1), (2, .ref a2)] [] S
  unfold fX0_loudest at hf
  refine jr_aload_n dX0_loudest_0 rfl rfl jv_rr ?_
  refine jr_iconst dX0_loudest_1 ic_0 ?_
  refine jr_aload_n dX0_loudest_2 rfl rfl jv_rr ?_
  refine jr_iload_n dX0_loudest_3 rfl rfl ?_
  rcases so_b3E hf with ⟨r1, S2, h5, hf⟩ | ⟨x3, S4, h5, hf⟩
  · refine jr_callM (st := [.int (0 : Int32), .ref a2]) lk_X0_81_0 (wX1_loudest a0 a1 S k_a0 h5) k_a0 rfl rfl rfl (so_le rfl) (so_le rfl) dX0_loudest_4 ?_
    refine jr_i2l dX0_loudest_7 ?_
    obtain ⟨g7, hf⟩ := so_gdE hf
    refine jr_lastore (so_m1 k_a2) (so_inE g7) dX0_loudest_8 ?_
    refine so_let_e hf (fun S8 hf => ?_)
    refine jr_goto (tgt := 15) dX0_loudest_9 rfl ?_
    refine jr_iconst dX0_loudest_15 ic_0 ?_
    obtain ⟨rfl, rfl⟩ := so_e2 hf
    exact jr_iret rfl rfl dX0_loudest_16
  · refine jr_callMX (st := [.int (0 : Int32), .ref a2]) lk_X0_81_0 (wX1_loudest a0 a1 S k_a0 h5) k_a0 rfl rfl rfl (so_le rfl) (so_le rfl) dX0_loudest_4 ?_
    by_cases c6 : x3 % 64 = 27
    · have hf := so_t c6 hf
      refine jr_catch (by rw [c6]; decide) (by rw [c6]; decide) [] ⟨0, 9, 12, 13⟩ [] rfl (fun _ h => by cases h) rfl (by decide) q863 (by rw [c6]; exact q181) ?_
      refine jr_astore_n (lv' := [(0, .ref a0), (1, .int a1), (2, .ref a2), (3, .ref x3)]) dX0_loudest_12 rfl (so_le rfl) jv_rr rfl ?_
      refine jr_iconst dX0_loudest_13 ic_1 ?_
      obtain ⟨rfl, rfl⟩ := so_e2 hf
      exact jr_iret rfl rfl dX0_loudest_14
    · have hf := so_f c6 hf
      exact so_no hf

/- X1_quiet -/
abbrev kX1_quiet : jx_K := (cX1_quiet, 4, RX1, 8, (Option.some Jvm.ClassFile.FieldType.int), "quiet", [])
def LX1_quiet_9 (f0 : Nat) (f1 : Int32) : Nat → Int32 → Int32 → so_St → Option ((Int32 ⊕ Nat) × so_St)
  | 0, _, _, _ => none
  | n + 1, v7, v8, S9 =>
    (so_rk (so_R S9 f0 0) [1]).bind fun p10 =>
    if (so_I S9 p10 6) ≤ v8 then
    (some (.inl v7, S9))
    else
    ((so_rk (so_R S9 f0 5) [22]).bind fun p13 =>
    (fX7_in p13 v8 S9).bind fun r16 =>
    so_j (κ := Int32 → Option ((Int32 ⊕ Nat) × so_St)) (ρ := Option ((Int32 ⊕ Nat) × so_St)) (fun (v17 : Int32) =>
    LX1_quiet_9 f0 f1 n (v7 ||| v17) (v8 + (1 : Int32)) S9)
    (fun J18 =>
    so_j (κ := Unit → Option ((Int32 ⊕ Nat) × so_St)) (ρ := Option ((Int32 ⊕ Nat) × so_St)) (fun (_u : Unit) =>
    J18 (0 : Int32))
    (fun J19 =>
    so_j (κ := Unit → Option ((Int32 ⊕ Nat) × so_St)) (ρ := Option ((Int32 ⊕ Nat) × so_St)) (fun (_u : Unit) =>
    (so_rk (so_R S9 f0 5) [22]).bind fun p21 =>
    (fX7_fightsAt p21 f1 v8 S9).bind fun r24 =>
    if r24 = (0 : Int32) then
    (J18 ((1 : Int32) <<< (v8 &&& 31)))
    else
    (J19 ()))
    (fun J20 =>
    if r16 = (-1 : Int32) then
    (J20 ())
    else
    ((so_rk (so_R S9 f0 5) [22]).bind fun p27 =>
    (fX7_in p27 v8 S9).bind fun r30 =>
    if r30 = f1 then
    (J20 ())
    else
    (J19 ()))))))
set_option maxHeartbeats 4000000 in
set_option maxRecDepth 100000 in
theorem wX1_quiet_9 {res : Int32 ⊕ Nat} {S' : so_St} {S0 : so_St}   (f0 : Nat) (f1 : Int32)   (k_f0 : f0 % 64 ∈ [0]) : ∀ (n : Nat) (v7 : Int32) (v8 : Int32) (S9 : so_St), LX1_quiet_9 f0 f1 n v7 v8 S9 = some (res, S') → jg_ (S0, S', so_oi res) kX1_quiet 9 [(0, .ref f0), (1, .int f1), (2, .int v7), (3, .int v8)] [] S9 := by
  intro n
  induction n with
  | zero =>
    intro v7 v8 S9 hf
    exact so_no hf
  | succ n ih =>
    intro v7 v8 S9 hf
    rw [LX1_quiet_9] at hf
    refine jr_iload_n dX1_quiet_9 rfl rfl ?_
    refine jr_aload_n dX1_quiet_10 rfl rfl jv_rr ?_
    refine jr_getR fl_X1_22_0 k_f0 (so_n26 rfl) dX1_quiet_11 ?_
    obtain ⟨p10, h11, hf⟩ := so_b hf
    obtain ⟨h11, k_p10⟩ := so_rk_s h11
    refine jr_rf h11 ?_
    refine jr_getI fl_X1_149_1 k_p10 (so_n26 rfl) dX1_quiet_14 ?_
    refine jr_icmp_ge (tgt := 72) dX1_quiet_17 rfl (fun c12 => ?_) (fun c12 => ?_)
    · have hf := so_t c12 hf
      refine jr_iload_n dX1_quiet_72 rfl rfl ?_
      obtain ⟨rfl, rfl⟩ := so_e2 hf
      exact jr_iret rfl rfl dX1_quiet_73
    · have hf := so_f c12 hf
      refine jr_iload_n dX1_quiet_20 rfl rfl ?_
      refine jr_aload_n dX1_quiet_21 rfl rfl jv_rr ?_
      refine jr_getR fl_X1_49_0 k_f0 (so_n26 rfl) dX1_quiet_22 ?_
      obtain ⟨p13, h14, hf⟩ := so_b hf
      obtain ⟨h14, k_p13⟩ := so_rk_s h14
      refine jr_rf h14 ?_
      refine jr_iload_n dX1_quiet_25 rfl rfl ?_
      obtain ⟨r16, h15, hf⟩ := so_b hf
      refine jr_callM (st := [.int v7]) lk_X1_280_22 (wX7_in p13 v8 S9 k_p13 h15) k_p13 rfl rfl rfl (so_le rfl) (so_le rfl) dX1_quiet_26 ?_
      refine jr_iconst dX1_quiet_29 ic_m1 ?_
      refine so_jE hf (fun J => ∀ (v17 : Int32), J v17 = some (res, S') → jg_ (S0, S', so_oi res) kX1_quiet 64 [(0, .ref f0), (1, .int f1), (3, .int v8)] [.int v17, .int v7] S9) (fun v17 hf => ?_) (fun J18 hJ18 hf => ?_)
      · refine jr_ior dX1_quiet_64 ?_
        refine jr_istore_n (lv' := [(0, .ref f0), (1, .int f1), (2, .int (v7 ||| v17)), (3, .int v8)]) dX1_quiet_65 rfl (so_le rfl) rfl ?_
        refine jr_iinc (v := v8 + (1 : Int32)) (lv' := [(0, .ref f0), (1, .int f1), (2, .int (v7 ||| v17)), (3, .int (v8 + (1 : Int32)))]) dX1_quiet_66 rfl rfl (so_le rfl) rfl ?_
        refine jr_goto (tgt := 9) dX1_quiet_69 rfl ?_
        exact ih (v7 ||| v17) (v8 + (1 : Int32)) S9 hf
      · refine so_jE hf (fun J => ∀ (u0 : Unit), J u0 = some (res, S') → jg_ (S0, S', so_oi res) kX1_quiet 63 [(0, .ref f0), (1, .int f1), (3, .int v8)] [.int v7] S9) (fun _u hf => ?_) (fun J19 hJ19 hf => ?_)
        · refine jr_iconst dX1_quiet_63 ic_0 ?_
          exact hJ18 (0 : Int32) hf
        · refine so_jE hf (fun J => ∀ (u0 : Unit), J u0 = some (res, S') → jg_ (S0, S', so_oi res) kX1_quiet 45 [(0, .ref f0), (1, .int f1), (3, .int v8)] [.int v7] S9) (fun _u hf => ?_) (fun J20 hJ20 hf => ?_)
          · refine jr_aload_n dX1_quiet_45 rfl rfl jv_rr ?_
            refine jr_getR fl_X1_49_0 k_f0 (so_n26 rfl) dX1_quiet_46 ?_
            obtain ⟨p21, h22, hf⟩ := so_b hf
            obtain ⟨h22, k_p21⟩ := so_rk_s h22
            refine jr_rf h22 ?_
            refine jr_iload_n dX1_quiet_49 rfl rfl ?_
            refine jr_iload_n dX1_quiet_50 rfl rfl ?_
            obtain ⟨r24, h23, hf⟩ := so_b hf
            refine jr_callM (st := [.int v7]) lk_X1_339_22 (wX7_fightsAt p21 f1 v8 S9 k_p21 h23) k_p21 rfl rfl rfl (so_le rfl) (so_le rfl) dX1_quiet_51 ?_
            refine jr_if_ne (tgt := 63) dX1_quiet_54 rfl (fun c25 => ?_) (fun c25 => ?_)
            · have hf := so_f c25 hf
              exact hJ19 () hf
            · have hf := so_t c25 hf
              refine jr_iconst dX1_quiet_57 ic_1 ?_
              refine jr_iload_n dX1_quiet_58 rfl rfl ?_
              refine jr_ishl dX1_quiet_59 ?_
              refine jr_goto (tgt := 64) dX1_quiet_60 rfl ?_
              exact hJ18 ((1 : Int32) <<< (v8 &&& 31)) hf
          · refine jr_icmp_eq (tgt := 45) dX1_quiet_30 rfl (fun c26 => ?_) (fun c26 => ?_)
            · have hf := so_t c26 hf
              refine jr_sub [0, 1, 3] rfl ?_
              exact hJ20 () hf
            · have hf := so_f c26 hf
              refine jr_aload_n dX1_quiet_33 rfl rfl jv_rr ?_
              refine jr_getR fl_X1_49_0 k_f0 (so_n26 rfl) dX1_quiet_34 ?_
              obtain ⟨p27, h28, hf⟩ := so_b hf
              obtain ⟨h28, k_p27⟩ := so_rk_s h28
              refine jr_rf h28 ?_
              refine jr_iload_n dX1_quiet_37 rfl rfl ?_
              obtain ⟨r30, h29, hf⟩ := so_b hf
              refine jr_callM (st := [.int v7]) lk_X1_280_22 (wX7_in p27 v8 S9 k_p27 h29) k_p27 rfl rfl rfl (so_le rfl) (so_le rfl) dX1_quiet_38 ?_
              refine jr_iload_n dX1_quiet_41 rfl rfl ?_
              refine jr_icmp_ne (tgt := 63) dX1_quiet_42 rfl (fun c31 => ?_) (fun c31 => ?_)
              · have hf := so_f c31 hf
                refine jr_sub [0, 1, 3] rfl ?_
                exact hJ19 () hf
              · have hf := so_t c31 hf
                refine jr_sub [0, 1, 3] rfl ?_
                exact hJ20 () hf
def fX1_quiet (a0 : Nat) (a1 : Int32) (S : so_St) : Option ((Int32 ⊕ Nat) × so_St) :=
  so_b3 (fX1_needPiano a0 a1 S) (fun r1 S2 =>
  LX1_quiet_9 a0 a1 so_N (0 : Int32) (0 : Int32) S2)
  (fun x3 S4 =>
  so_gd (decide (x3 % 64 ∈ [28])) fun _ =>
  some (.inr x3, S4))
set_option maxHeartbeats 4000000 in
set_option maxRecDepth 100000 in
theorem wX1_quiet {res : Int32 ⊕ Nat} {S' : so_St}  (a0 : Nat) (a1 : Int32)  (S : so_St) (k_a0 : a0 % 64 ∈ [0]) (hf : fX1_quiet a0 a1 S = some (res, S')) : jx_Sp 8 yX1_quiet (ws_ yX1_quiet cX1_quiet 4 (Option.some Jvm.ClassFile.FieldType.int)) [.ref a0, .int a1] S (so_oi res) S' := by
  refine jx_of (plainFor_of_name (by decide)) (so_le rfl) ?_
  show jg_ (S, S', so_oi res) kX1_quiet 0 [(0, .ref a0), (1, .int a1)] [] S
  unfold fX1_quiet at hf
  refine jr_aload_n dX1_quiet_0 rfl rfl jv_rr ?_
  refine jr_iload_n dX1_quiet_1 rfl rfl ?_
  rcases so_b3E hf with ⟨r1, S2, h5, hf⟩ | ⟨x3, S4, h5, hf⟩
  · refine jr_callM (st := []) lk_X1_305_0 (wX1_needPiano a0 a1 S k_a0 h5) k_a0 rfl rfl rfl (so_le rfl) (so_le rfl) dX1_quiet_2 ?_
    refine jr_iconst dX1_quiet_5 ic_0 ?_
    refine jr_istore_n (lv' := [(0, .ref a0), (1, .int a1), (2, .int (0 : Int32))]) dX1_quiet_6 rfl (so_le rfl) rfl ?_
    refine jr_iconst dX1_quiet_7 ic_0 ?_
    refine jr_istore_n (lv' := [(0, .ref a0), (1, .int a1), (2, .int (0 : Int32)), (3, .int (0 : Int32))]) dX1_quiet_8 rfl (so_le rfl) rfl ?_
    refine wX1_quiet_9 a0 a1 k_a0 so_N (0 : Int32) (0 : Int32) S2 hf
  · refine jr_callMX (st := []) lk_X1_305_0 (wX1_needPiano a0 a1 S k_a0 h5) k_a0 rfl rfl rfl (so_le rfl) (so_le rfl) dX1_quiet_2 ?_
    obtain ⟨g6, hf⟩ := so_gdE hf
    obtain ⟨rfl, rfl⟩ := so_e2 hf
    exact jr_out (so_l29 (of_decide_eq_true g6) rfl).1 (so_l29 (of_decide_eq_true g6) rfl).2 rfl
