/-! printed: functions and walks -/
set_option maxRecDepth 100000
set_option linter.unusedVariables false
/- X1_worstAt -/
abbrev kX1_worstAt : jx_K := (cX1_worstAt, 5, RX1, 1, (Option.some Jvm.ClassFile.FieldType.int), "worstAt", [])
def LX1_worstAt_2 (f0 : Nat) (f1 : Int32) (k21 : so_St → Option (Int32 × so_St)) : Nat → Int32 → so_St → Option (Int32 × so_St)
  | 0, _, _ => none
  | n + 1, v1, S2 =>
    if (99 : Int32) < v1 then
    (k21 S2)
    else
    ((so_rk (so_R S2 f0 23) [50]).bind fun p4 =>
    so_gd (so_in v1 (so_l S2 p4)) fun _ =>
    so_let (so_sI S2 p4 v1.toNatClampNeg (0 : Int32)) fun S7 =>
    LX1_worstAt_2 f0 f1 k21 n (v1 + (1 : Int32)) S7)
set_option maxHeartbeats 4000000 in
set_option maxRecDepth 100000 in
theorem wX1_worstAt_2 {res : Int32} {S' : so_St} {S0 : so_St}   (f0 : Nat) (f1 : Int32)   (k_f0 : f0 % 64 ∈ [0]) (k21 : so_St → Option (Int32 × so_St)) (h21 : ∀ (S8 : so_St), k21 S8 = some (res, S') → jg_ (S0, S', .inl (some (.int res))) kX1_worstAt 21 [(0, .ref f0), (1, .int f1)] [] S8) : ∀ (n : Nat) (v1 : Int32) (S2 : so_St), LX1_worstAt_2 f0 f1 k21 n v1 S2 = some (res, S') → jg_ (S0, S', .inl (some (.int res))) kX1_worstAt 2 [(0, .ref f0), (1, .int f1), (2, .int v1)] [] S2 := by
  intro n
  induction n with
  | zero =>
    intro v1 S2 hf
    exact so_no hf
  | succ n ih =>
    intro v1 S2 hf
    rw [LX1_worstAt_2] at hf
    refine jr_iload_n dX1_worstAt_2 rfl rfl ?_
    refine jr_bipush dX1_worstAt_3 bp_99 ?_
    refine jr_icmp_gt (tgt := 21) dX1_worstAt_5 rfl (fun c3 => ?_) (fun c3 => ?_)
    · have hf := so_t c3 hf
      refine jr_sub [0, 1] rfl ?_
      exact h21 S2 hf
    · have hf := so_f c3 hf
      refine jr_aload_n dX1_worstAt_8 rfl rfl jv_rr ?_
      refine jr_getR fl_X1_87_0 k_f0 (so_n26 rfl) dX1_worstAt_9 ?_
      obtain ⟨p4, h5, hf⟩ := so_b hf
      obtain ⟨h5, k_p4⟩ := so_rk_s h5
      refine jr_rf h5 ?_
      refine jr_iload_n dX1_worstAt_12 rfl rfl ?_
      refine jr_iconst dX1_worstAt_13 ic_0 ?_
      obtain ⟨g6, hf⟩ := so_gdE hf
      refine jr_iastore (so_m1 k_p4) (so_inE g6) dX1_worstAt_14 ?_
      refine so_let_e hf (fun S7 hf => ?_)
      refine jr_iinc (v := v1 + (1 : Int32)) (lv' := [(0, .ref f0), (1, .int f1), (2, .int (v1 + (1 : Int32)))]) dX1_worstAt_15 rfl rfl (so_le rfl) rfl ?_
      refine jr_goto (tgt := 2) dX1_worstAt_18 rfl ?_
      exact ih (v1 + (1 : Int32)) S7 hf
def LX1_worstAt_25 (f0 : Nat) (f1 : Int32) : Nat → Int32 → Int32 → so_St → Option (Int32 × so_St)
  | 0, _, _, _ => none
  | n + 1, v10, v11, S12 =>
    if (900 : Int32) ≤ v11 then
    (some (v10, S12))
    else
    ((so_rk (so_R S12 f0 24) [52]).bind fun p14 =>
    so_gd (so_in v11 (so_l S12 p14)) fun _ =>
    so_j (κ := Int32 → so_St → Option (Int32 × so_St)) (ρ := Option (Int32 × so_St)) (fun (v17 : Int32) (S18 : so_St) =>
    LX1_worstAt_25 f0 f1 n v17 (v11 + (1 : Int32)) S18)
    (fun J19 =>
    if (so_I S12 p14 v11.toNatClampNeg) = (0 : Int32) then
    (J19 v10 S12)
    else
    ((so_rk (so_R S12 f0 22) [50]).bind fun p21 =>
    so_gd (so_in (((61 : Int32) * v11) + f1) (so_l S12 p21)) fun _ =>
    (so_rk (so_R S12 f0 23) [50]).bind fun p24 =>
    so_gd (so_in (so_I S12 p21 (((61 : Int32) * v11) + f1).toNatClampNeg) (so_l S12 p24)) fun _ =>
    so_gd (so_in (so_I S12 p21 (((61 : Int32) * v11) + f1).toNatClampNeg) (so_l S12 p24)) fun _ =>
    so_let (so_sI S12 p24 (so_I S12 p21 (((61 : Int32) * v11) + f1).toNatClampNeg).toNatClampNeg ((so_I S12 p24 (so_I S12 p21 (((61 : Int32) * v11) + f1).toNatClampNeg).toNatClampNeg) + (1 : Int32))) fun S28 =>
    (so_rk (so_R S28 f0 23) [50]).bind fun p29 =>
    so_gd (so_in (so_I S12 p21 (((61 : Int32) * v11) + f1).toNatClampNeg) (so_l S28 p29)) fun _ =>
    J19 (fJ12_max v10 (so_I S28 p29 (so_I S12 p21 (((61 : Int32) * v11) + f1).toNatClampNeg).toNatClampNeg)) S28)))
set_option maxHeartbeats 4000000 in
set_option maxRecDepth 100000 in
theorem wX1_worstAt_25 {res : Int32} {S' : so_St} {S0 : so_St}   (f0 : Nat) (f1 : Int32)   (k_f0 : f0 % 64 ∈ [0]) : ∀ (n : Nat) (v10 : Int32) (v11 : Int32) (S12 : so_St), LX1_worstAt_25 f0 f1 n v10 v11 S12 = some (res, S') → jg_ (S0, S', .inl (some (.int res))) kX1_worstAt 25 [(0, .ref f0), (1, .int f1), (2, .int v10), (3, .int v11)] [] S12 := by
  intro n
  induction n with
  | zero =>
    intro v10 v11 S12 hf
    exact so_no hf
  | succ n ih =>
    intro v10 v11 S12 hf
    rw [LX1_worstAt_25] at hf
    refine jr_iload_n dX1_worstAt_25 rfl rfl ?_
    refine jr_sipush dX1_worstAt_26 sp_900 ?_
    refine jr_icmp_ge (tgt := 86) dX1_worstAt_29 rfl (fun c13 => ?_) (fun c13 => ?_)
    · have hf := so_t c13 hf
      refine jr_iload_n dX1_worstAt_86 rfl rfl ?_
      obtain ⟨rfl, rfl⟩ := so_e2 hf
      exact jr_iret rfl rfl dX1_worstAt_87
    · have hf := so_f c13 hf
      refine jr_aload_n dX1_worstAt_32 rfl rfl jv_rr ?_
      refine jr_getR fl_X1_90_0 k_f0 (so_n26 rfl) dX1_worstAt_33 ?_
      obtain ⟨p14, h15, hf⟩ := so_b hf
      obtain ⟨h15, k_p14⟩ := so_rk_s h15
      refine jr_rf h15 ?_
      refine jr_iload_n dX1_worstAt_36 rfl rfl ?_
      obtain ⟨g16, hf⟩ := so_gdE hf
      refine jr_zaload (so_m1 k_p14) (so_inE g16) dX1_worstAt_37 ?_
      refine so_jE hf (fun J => ∀ (v17 : Int32) (S18 : so_St), J v17 S18 = some (res, S') → jg_ (S0, S', .inl (some (.int res))) kX1_worstAt 80 [(0, .ref f0), (1, .int f1), (2, .int v17), (3, .int v11)] [] S18) (fun v17 S18 hf => ?_) (fun J19 hJ19 hf => ?_)
      · refine jr_iinc (v := v11 + (1 : Int32)) (lv' := [(0, .ref f0), (1, .int f1), (2, .int v17), (3, .int (v11 + (1 : Int32)))]) dX1_worstAt_80 rfl rfl (so_le rfl) rfl ?_
        refine jr_goto (tgt := 25) dX1_worstAt_83 rfl ?_
        exact ih v17 (v11 + (1 : Int32)) S18 hf
      · refine jr_if_ne (tgt := 44) dX1_worstAt_38 rfl (fun c20 => ?_) (fun c20 => ?_)
        · have hf := so_f c20 hf
          refine jr_aload_n dX1_worstAt_44 rfl rfl jv_rr ?_
          refine jr_getR fl_X1_84_0 k_f0 (so_n26 rfl) dX1_worstAt_45 ?_
          obtain ⟨p21, h22, hf⟩ := so_b hf
          obtain ⟨h22, k_p21⟩ := so_rk_s h22
          refine jr_rf h22 ?_
          refine jr_bipush dX1_worstAt_48 bp_61 ?_
          refine jr_iload_n dX1_worstAt_50 rfl rfl ?_
          refine jr_imul dX1_worstAt_51 ?_
          refine jr_iload_n dX1_worstAt_52 rfl rfl ?_
          refine jr_iadd dX1_worstAt_53 ?_
          obtain ⟨g23, hf⟩ := so_gdE hf
          refine jr_iaload (so_m1 k_p21) (so_inE g23) dX1_worstAt_54 ?_
          refine jr_istore (lv' := [(0, .ref f0), (1, .int f1), (2, .int v10), (3, .int v11), (4, .int (so_I S12 p21 (((61 : Int32) * v11) + f1).toNatClampNeg))]) dX1_worstAt_55 (so_le rfl) rfl ?_
          refine jr_aload_n dX1_worstAt_57 rfl rfl jv_rr ?_
          refine jr_getR fl_X1_87_0 k_f0 (so_n26 rfl) dX1_worstAt_58 ?_
          obtain ⟨p24, h25, hf⟩ := so_b hf
          obtain ⟨h25, k_p24⟩ := so_rk_s h25
          refine jr_rf h25 ?_
          refine jr_iload dX1_worstAt_61 rfl ?_
          refine jr_dup2 dX1_worstAt_63 rfl rfl ?_
          obtain ⟨g26, hf⟩ := so_gdE hf
          refine jr_iaload (so_m1 k_p24) (so_inE g26) dX1_worstAt_64 ?_
          refine jr_iconst dX1_worstAt_65 ic_1 ?_
          refine jr_iadd dX1_worstAt_66 ?_
          obtain ⟨g27, hf⟩ := so_gdE hf
          refine jr_iastore (so_m1 k_p24) (so_inE g27) dX1_worstAt_67 ?_
          refine so_let_e hf (fun S28 hf => ?_)
          refine jr_iload_n dX1_worstAt_68 rfl rfl ?_
          refine jr_aload_n dX1_worstAt_69 rfl rfl jv_rr ?_
          refine jr_getR fl_X1_87_0 k_f0 (so_n26 rfl) dX1_worstAt_70 ?_
          obtain ⟨p29, h30, hf⟩ := so_b hf
          obtain ⟨h30, k_p29⟩ := so_rk_s h30
          refine jr_rf h30 ?_
          refine jr_iload dX1_worstAt_73 rfl ?_
          obtain ⟨g31, hf⟩ := so_gdE hf
          refine jr_iaload (so_m1 k_p29) (so_inE g31) dX1_worstAt_75 ?_
          refine jr_call (st := []) lk_X1_140 (wJ12_max v10 (so_I S28 p29 (so_I S12 p21 (((61 : Int32) * v11) + f1).toNatClampNeg).toNatClampNeg) S28 rfl) jk_r0 rfl rfl (so_le rfl) (so_le rfl) dX1_worstAt_76 ?_
          refine jr_istore_n (lv' := [(0, .ref f0), (1, .int f1), (2, .int (fJ12_max v10 (so_I S28 p29 (so_I S12 p21 (((61 : Int32) * v11) + f1).toNatClampNeg).toNatClampNeg))), (3, .int v11), (4, .int (so_I S12 p21 (((61 : Int32) * v11) + f1).toNatClampNeg))]) dX1_worstAt_79 rfl (so_le rfl) rfl ?_
          refine jr_sub [0, 1, 2, 3] rfl ?_
          exact hJ19 (fJ12_max v10 (so_I S28 p29 (so_I S12 p21 (((61 : Int32) * v11) + f1).toNatClampNeg).toNatClampNeg)) S28 hf
        · have hf := so_t c20 hf
          refine jr_goto (tgt := 80) dX1_worstAt_41 rfl ?_
          exact hJ19 v10 S12 hf
def fX1_worstAt (a0 : Nat) (a1 : Int32) (S : so_St) : Option (Int32 × so_St) :=
  LX1_worstAt_2 a0 a1 (fun (S9 : so_St) =>
  LX1_worstAt_25 a0 a1 so_N (0 : Int32) (0 : Int32) S9) so_N (0 : Int32) S
set_option maxHeartbeats 4000000 in
set_option maxRecDepth 100000 in
theorem wX1_worstAt {res : Int32} {S' : so_St}  (a0 : Nat) (a1 : Int32)  (S : so_St) (k_a0 : a0 % 64 ∈ [0]) (hf : fX1_worstAt a0 a1 S = some (res, S')) : jx_Sp 1 yX1_worstAt (ws_ yX1_worstAt cX1_worstAt 5 (Option.some Jvm.ClassFile.FieldType.int)) [.ref a0, .int a1] S (.inl (some (.int res))) S' := by
  refine jx_of (plainFor_of_name (by decide)) (so_le rfl) ?_
  show jg_ (S, S', .inl (some (.int res))) kX1_worstAt 0 [(0, .ref a0), (1, .int a1)] [] S
  unfold fX1_worstAt at hf
  refine jr_iconst dX1_worstAt_0 ic_0 ?_
  refine jr_istore_n (lv' := [(0, .ref a0), (1, .int a1), (2, .int (0 : Int32))]) dX1_worstAt_1 rfl (so_le rfl) rfl ?_
  refine wX1_worstAt_2 a0 a1 k_a0 _ (fun S9 hf => ?_) so_N (0 : Int32) S hf
  refine jr_iconst dX1_worstAt_21 ic_0 ?_
  refine jr_istore_n (lv' := [(0, .ref a0), (1, .int a1), (2, .int (0 : Int32))]) dX1_worstAt_22 rfl (so_le rfl) rfl ?_
  refine jr_iconst dX1_worstAt_23 ic_0 ?_
  refine jr_istore_n (lv' := [(0, .ref a0), (1, .int a1), (2, .int (0 : Int32)), (3, .int (0 : Int32))]) dX1_worstAt_24 rfl (so_le rfl) rfl ?_
  refine wX1_worstAt_25 a0 a1 k_a0 so_N (0 : Int32) (0 : Int32) S9 hf

/- X1_look -/
abbrev kX1_look : jx_K := (cX1_look, 7, RX1, 1203, (Option.some Jvm.ClassFile.FieldType.int), "look", [])
def LX1_look_20 (f0 : Nat) (f2 : Int32) (k44 : so_St → Option ((Int32 ⊕ Nat) × so_St)) : Nat → Int32 → so_St → Option ((Int32 ⊕ Nat) × so_St)
  | 0, _, _ => none
  | n + 1, v16, S17 =>
    if (900 : Int32) ≤ v16 then
    (k44 S17)
    else
    ((so_rk (so_R S17 f0 24) [52]).bind fun p19 =>
    (fX1_isFit f0 v16 S17).bind fun r22 =>
    so_gd (so_in v16 (so_l S17 p19)) fun _ =>
    so_gd (so_01 r22) fun _ =>
    so_let (so_sI S17 p19 v16.toNatClampNeg r22) fun S25 =>
    LX1_look_20 f0 f2 k44 n (v16 + (1 : Int32)) S25)
set_option maxHeartbeats 4000000 in
set_option maxRecDepth 100000 in
theorem wX1_look_20 {res : Int32 ⊕ Nat} {S' : so_St} {S0 : so_St}   (f0 : Nat) (f2 : Int32)   (k_f0 : f0 % 64 ∈ [0]) (k44 : so_St → Option ((Int32 ⊕ Nat) × so_St)) (h44 : ∀ (S26 : so_St), k44 S26 = some (res, S') → jg_ (S0, S', so_oi res) kX1_look 44 [(0, .ref f0), (2, .int f2)] [] S26) : ∀ (n : Nat) (v16 : Int32) (S17 : so_St), LX1_look_20 f0 f2 k44 n v16 S17 = some (res, S') → jg_ (S0, S', so_oi res) kX1_look 20 [(0, .ref f0), (2, .int f2), (3, .int v16)] [] S17 := by
  intro n
  induction n with
  | zero =>
    intro v16 S17 hf
    exact so_no hf
  | succ n ih =>
    intro v16 S17 hf
    rw [LX1_look_20] at hf
    refine jr_iload_n dX1_look_20 rfl rfl ?_
    refine jr_sipush dX1_look_21 sp_900 ?_
    refine jr_icmp_ge (tgt := 44) dX1_look_24 rfl (fun c18 => ?_) (fun c18 => ?_)
    · have hf := so_t c18 hf
      refine jr_sub [0, 1] rfl ?_
      exact h44 S17 hf
    · have hf := so_f c18 hf
      refine jr_aload_n dX1_look_27 rfl rfl jv_rr ?_
      refine jr_getR fl_X1_90_0 k_f0 (so_n26 rfl) dX1_look_28 ?_
      obtain ⟨p19, h20, hf⟩ := so_b hf
      obtain ⟨h20, k_p19⟩ := so_rk_s h20
      refine jr_rf h20 ?_
      refine jr_iload_n dX1_look_31 rfl rfl ?_
      refine jr_aload_n dX1_look_32 rfl rfl jv_rr ?_
      refine jr_iload_n dX1_look_33 rfl rfl ?_
      obtain ⟨r22, h21, hf⟩ := so_b hf
      refine jr_callM (st := [.int v16, .ref p19]) lk_X1_367_0 (wX1_isFit f0 v16 S17 k_f0 h21) k_f0 rfl rfl rfl (so_le rfl) (so_le rfl) dX1_look_34 ?_
      obtain ⟨g23, hf⟩ := so_gdE hf
      obtain ⟨g24, hf⟩ := so_gdE hf
      refine jr_zastore (so_m1 k_p19) (so_01E g24) (so_inE g23) dX1_look_37 ?_
      refine so_let_e hf (fun S25 hf => ?_)
      refine jr_iinc (v := v16 + (1 : Int32)) (lv' := [(0, .ref f0), (2, .int f2), (3, .int (v16 + (1 : Int32)))]) dX1_look_38 rfl rfl (so_le rfl) rfl ?_
      refine jr_goto (tgt := 20) dX1_look_41 rfl ?_
      exact ih (v16 + (1 : Int32)) S25 hf
def LX1_look_52 (f0 : Nat) (f2 : Int32) (k109 : Int32 → Int32 → so_St → Option ((Int32 ⊕ Nat) × so_St)) : Nat → Int32 → Int32 → Int32 → so_St → Option ((Int32 ⊕ Nat) × so_St)
  | 0, _, _, _, _ => none
  | n + 1, v28, v29, v30, S31 =>
    if (61 : Int32) ≤ v30 then
    (k109 v28 v29 S31)
    else
    ((so_rk (so_R S31 f0 3) [50]).bind fun p33 =>
    so_gd (so_in v30 (so_l S31 p33)) fun _ =>
    so_j (κ := Int32 → Int32 → so_St → Option ((Int32 ⊕ Nat) × so_St)) (ρ := Option ((Int32 ⊕ Nat) × so_St)) (fun (v36 : Int32) (v37 : Int32) (S38 : so_St) =>
    LX1_look_52 f0 f2 k109 n v36 v37 (v30 + (1 : Int32)) S38)
    (fun J39 =>
    if (so_I S31 p33 v30.toNatClampNeg) = (-1 : Int32) then
    (so_b2 (fX1_worstAt f0 v30 S31) fun r42 S43 =>
    so_j (κ := Unit → Option ((Int32 ⊕ Nat) × so_St)) (ρ := Option ((Int32 ⊕ Nat) × so_St)) (fun (_u : Unit) =>
    J39 v30 r42 S43)
    (fun J44 =>
    if v28 = (-1 : Int32) then
    (J44 ())
    else
    (if r42 < v29 then
    (J44 ())
    else
    (J39 v28 v29 S43))))
    else
    (J39 v28 v29 S31)))
set_option maxHeartbeats 4000000 in
set_option maxRecDepth 100000 in
theorem wX1_look_52 {res : Int32 ⊕ Nat} {S' : so_St} {S0 : so_St}   (f0 : Nat) (f2 : Int32)   (k_f0 : f0 % 64 ∈ [0]) (k109 : Int32 → Int32 → so_St → Option ((Int32 ⊕ Nat) × so_St)) (h109 : ∀ (v47 : Int32) (v48 : Int32) (S49 : so_St), k109 v47 v48 S49 = some (res, S') → jg_ (S0, S', so_oi res) kX1_look 109 [(2, .int f2), (3, .int v47), (4, .int v48)] [] S49) : ∀ (n : Nat) (v28 : Int32) (v29 : Int32) (v30 : Int32) (S31 : so_St), LX1_look_52 f0 f2 k109 n v28 v29 v30 S31 = some (res, S') → jg_ (S0, S', so_oi res) kX1_look 52 [(0, .ref f0), (2, .int f2), (3, .int v28), (4, .int v29), (5, .int v30)] [] S31 := by
  intro n
  induction n with
  | zero =>
    intro v28 v29 v30 S31 hf
    exact so_no hf
  | succ n ih =>
    intro v28 v29 v30 S31 hf
    rw [LX1_look_52] at hf
    refine jr_iload dX1_look_52 rfl ?_
    refine jr_bipush dX1_look_54 bp_61 ?_
    refine jr_icmp_ge (tgt := 109) dX1_look_56 rfl (fun c32 => ?_) (fun c32 => ?_)
    · have hf := so_t c32 hf
      refine jr_sub [1, 2, 3] rfl ?_
      exact h109 v28 v29 S31 hf
    · have hf := so_f c32 hf
      refine jr_aload_n dX1_look_59 rfl rfl jv_rr ?_
      refine jr_getR fl_X1_38_0 k_f0 (so_n26 rfl) dX1_look_60 ?_
      obtain ⟨p33, h34, hf⟩ := so_b hf
      obtain ⟨h34, k_p33⟩ := so_rk_s h34
      refine jr_rf h34 ?_
      refine jr_iload dX1_look_63 rfl ?_
      obtain ⟨g35, hf⟩ := so_gdE hf
      refine jr_iaload (so_m1 k_p33) (so_inE g35) dX1_look_65 ?_
      refine jr_iconst dX1_look_66 ic_m1 ?_
      refine so_jE hf (fun J => ∀ (v36 : Int32) (v37 : Int32) (S38 : so_St), J v36 v37 S38 = some (res, S') → jg_ (S0, S', so_oi res) kX1_look 103 [(0, .ref f0), (2, .int f2), (3, .int v36), (4, .int v37), (5, .int v30)] [] S38) (fun v36 v37 S38 hf => ?_) (fun J39 hJ39 hf => ?_)
      · refine jr_iinc (v := v30 + (1 : Int32)) (lv' := [(0, .ref f0), (2, .int f2), (3, .int v36), (4, .int v37), (5, .int (v30 + (1 : Int32)))]) dX1_look_103 rfl rfl (so_le rfl) rfl ?_
        refine jr_goto (tgt := 52) dX1_look_106 rfl ?_
        exact ih v36 v37 (v30 + (1 : Int32)) S38 hf
      · refine jr_icmp_eq (tgt := 73) dX1_look_67 rfl (fun c40 => ?_) (fun c40 => ?_)
        · have hf := so_t c40 hf
          refine jr_aload_n dX1_look_73 rfl rfl jv_rr ?_
          refine jr_iload dX1_look_74 rfl ?_
          obtain ⟨r42, S43, h41, hf⟩ := so_b2E hf
          refine jr_callM (st := []) lk_X1_370_0 (wX1_worstAt f0 v30 S31 k_f0 h41) k_f0 rfl rfl rfl (so_le rfl) (so_le rfl) dX1_look_76 ?_
          refine jr_istore (lv' := [(0, .ref f0), (2, .int f2), (3, .int v28), (4, .int v29), (5, .int v30), (6, .int r42)]) dX1_look_79 (so_le rfl) rfl ?_
          refine jr_iload_n dX1_look_81 rfl rfl ?_
          refine jr_iconst dX1_look_82 ic_m1 ?_
          refine so_jE hf (fun J => ∀ (u0 : Unit), J u0 = some (res, S') → jg_ (S0, S', so_oi res) kX1_look 96 [(0, .ref f0), (2, .int f2), (5, .int v30), (6, .int r42)] [] S43) (fun _u hf => ?_) (fun J44 hJ44 hf => ?_)
          · refine jr_iload dX1_look_96 rfl ?_
            refine jr_istore_n (lv' := [(0, .ref f0), (2, .int f2), (3, .int v30), (5, .int v30), (6, .int r42)]) dX1_look_98 rfl (so_le rfl) rfl ?_
            refine jr_iload dX1_look_99 rfl ?_
            refine jr_istore (lv' := [(0, .ref f0), (2, .int f2), (3, .int v30), (4, .int r42), (5, .int v30), (6, .int r42)]) dX1_look_101 (so_le rfl) rfl ?_
            refine jr_sub [0, 1, 2, 3, 4] rfl ?_
            exact hJ39 v30 r42 S43 hf
          · refine jr_icmp_eq (tgt := 96) dX1_look_83 rfl (fun c45 => ?_) (fun c45 => ?_)
            · have hf := so_t c45 hf
              refine jr_sub [0, 1, 4, 5] rfl ?_
              exact hJ44 () hf
            · have hf := so_f c45 hf
              refine jr_iload dX1_look_86 rfl ?_
              refine jr_iload dX1_look_88 rfl ?_
              refine jr_icmp_lt (tgt := 96) dX1_look_90 rfl (fun c46 => ?_) (fun c46 => ?_)
              · have hf := so_t c46 hf
                refine jr_sub [0, 1, 4, 5] rfl ?_
                exact hJ44 () hf
              · have hf := so_f c46 hf
                refine jr_goto (tgt := 103) dX1_look_93 rfl ?_
                refine jr_sub [0, 1, 2, 3, 4] rfl ?_
                exact hJ39 v28 v29 S43 hf
        · have hf := so_f c40 hf
          refine jr_goto (tgt := 103) dX1_look_70 rfl ?_
          exact hJ39 v28 v29 S31 hf
def fX1_look (a0 : Nat) (a1 : Int32) (a2 : Int32) (S : so_St) : Option ((Int32 ⊕ Nat) × so_St) :=
  so_b3 (fX1_needHouse a0 a1 S) (fun r1 S2 =>
  so_b3 (fX1_need a0 (fX1_isPart a2) S2) (fun r7 S8 =>
  (fX1_layFrom a0 a1 S8).bind fun S15 =>
  LX1_look_20 a0 a2 (fun (S27 : so_St) =>
  LX1_look_52 a0 a2 (fun (v50 : Int32) (v51 : Int32) (S52 : so_St) =>
  if a2 = (0 : Int32) then
  (some (.inl v50, S52))
  else
  (some (.inl v51, S52))) so_N (-1 : Int32) (-1 : Int32) (0 : Int32) S27) so_N (0 : Int32) S15)
  (fun x9 S10 =>
  so_gd (decide (x9 % 64 ∈ [27])) fun _ =>
  some (.inr x9, S10)))
  (fun x3 S4 =>
  so_gd (decide (x3 % 64 ∈ [28])) fun _ =>
  some (.inr x3, S4))
set_option maxHeartbeats 4000000 in
set_option maxRecDepth 100000 in
theorem wX1_look {res : Int32 ⊕ Nat} {S' : so_St}  (a0 : Nat) (a1 : Int32) (a2 : Int32)  (S : so_St) (k_a0 : a0 % 64 ∈ [0]) (hf : fX1_look a0 a1 a2 S = some (res, S')) : jx_Sp 1203 yX1_look (ws_ yX1_look cX1_look 7 (Option.some Jvm.ClassFile.FieldType.int)) [.ref a0, .int a1, .int a2] S (so_oi res) S' := by
  refine jx_of (plainFor_of_name (by decide)) (so_le rfl) ?_
  show jg_ (S, S', so_oi res) kX1_look 0 [(0, .ref a0), (1, .int a1), (2, .int a2)] [] S
  unfold fX1_look at hf
  refine jr_aload_n dX1_look_0 rfl rfl jv_rr ?_
  refine jr_iload_n dX1_look_1 rfl rfl ?_
  rcases so_b3E hf with ⟨r1, S2, h5, hf⟩ | ⟨x3, S4, h5, hf⟩
  · refine jr_callM (st := []) lk_X1_274_0 (wX1_needHouse a0 a1 S k_a0 h5) k_a0 rfl rfl rfl (so_le rfl) (so_le rfl) dX1_look_2 ?_
    refine jr_aload_n dX1_look_5 rfl rfl jv_rr ?_
    refine jr_iload_n dX1_look_6 rfl rfl ?_
    refine jr_call (st := [.ref a0]) lk_X1_296 (wX1_isPart a2 S2 rfl) jk_r0 rfl rfl (so_le rfl) (so_le rfl) dX1_look_7 ?_
    rcases so_b3E hf with ⟨r7, S8, h11, hf⟩ | ⟨x9, S10, h11, hf⟩
    · refine jr_callM (st := []) lk_X1_172_0 (wX1_need a0 (fX1_isPart a2) S2 k_a0 h11) k_a0 rfl rfl rfl (so_le rfl) (so_le rfl) dX1_look_10 ?_
      refine jr_aload_n dX1_look_13 rfl rfl jv_rr ?_
      refine jr_iload_n dX1_look_14 rfl rfl ?_
      obtain ⟨S15, h13, hf⟩ := so_b hf
      refine jr_callM (st := []) lk_X1_364_0 (wX1_layFrom a0 a1 S8 k_a0 h13) k_a0 rfl rfl rfl (so_le rfl) (so_le rfl) dX1_look_15 ?_
      refine jr_iconst dX1_look_18 ic_0 ?_
      refine jr_istore_n (lv' := [(0, .ref a0), (1, .int a1), (2, .int a2), (3, .int (0 : Int32))]) dX1_look_19 rfl (so_le rfl) rfl ?_
      refine jr_sub [0, 2, 3] rfl ?_
      refine wX1_look_20 a0 a2 k_a0 _ (fun S27 hf => ?_) so_N (0 : Int32) S15 hf
      refine jr_iconst dX1_look_44 ic_m1 ?_
      refine jr_istore_n (lv' := [(0, .ref a0), (2, .int a2), (3, .int (-1 : Int32))]) dX1_look_45 rfl (so_le rfl) rfl ?_
      refine jr_iconst dX1_look_46 ic_m1 ?_
      refine jr_istore (lv' := [(0, .ref a0), (2, .int a2), (3, .int (-1 : Int32)), (4, .int (-1 : Int32))]) dX1_look_47 (so_le rfl) rfl ?_
      refine jr_iconst dX1_look_49 ic_0 ?_
      refine jr_istore (lv' := [(0, .ref a0), (2, .int a2), (3, .int (-1 : Int32)), (4, .int (-1 : Int32)), (5, .int (0 : Int32))]) dX1_look_50 (so_le rfl) rfl ?_
      refine wX1_look_52 a0 a2 k_a0 _ (fun v50 v51 S52 hf => ?_) so_N (-1 : Int32) (-1 : Int32) (0 : Int32) S27 hf
      refine jr_iload_n dX1_look_109 rfl rfl ?_
      refine jr_if_ne (tgt := 117) dX1_look_110 rfl (fun c53 => ?_) (fun c53 => ?_)
      · have hf := so_f c53 hf
        refine jr_iload dX1_look_117 rfl ?_
        obtain ⟨rfl, rfl⟩ := so_e2 hf
        exact jr_iret rfl rfl dX1_look_119
      · have hf := so_t c53 hf
        refine jr_iload_n dX1_look_113 rfl rfl ?_
        refine jr_goto (tgt := 119) dX1_look_114 rfl ?_
        obtain ⟨rfl, rfl⟩ := so_e2 hf
        exact jr_iret rfl rfl dX1_look_119
    · refine jr_callMX (st := []) lk_X1_172_0 (wX1_need a0 (fX1_isPart a2) S2 k_a0 h11) k_a0 rfl rfl rfl (so_le rfl) (so_le rfl) dX1_look_10 ?_
      obtain ⟨g12, hf⟩ := so_gdE hf
      obtain ⟨rfl, rfl⟩ := so_e2 hf
      exact jr_out (so_l29 (of_decide_eq_true g12) rfl).1 (so_l29 (of_decide_eq_true g12) rfl).2 rfl
  · refine jr_callMX (st := []) lk_X1_274_0 (wX1_needHouse a0 a1 S k_a0 h5) k_a0 rfl rfl rfl (so_le rfl) (so_le rfl) dX1_look_2 ?_
    obtain ⟨g6, hf⟩ := so_gdE hf
    obtain ⟨rfl, rfl⟩ := so_e2 hf
    exact jr_out (so_l29 (of_decide_eq_true g6) rfl).1 (so_l29 (of_decide_eq_true g6) rfl).2 rfl

/- X0_look -/
abbrev kX0_look : jx_K := (cX0_look, 5, RX0, 1204, (Option.some Jvm.ClassFile.FieldType.int), "look", tableOf [(0, 10, 13, 31), (0, 10, 17, 13)])
def fX0_look (a0 : Nat) (a1 : Int32) (a2 : Int32) (a3 : Nat) (S : so_St) : Option (Int32 × so_St) :=
  so_b3 (fX1_look a0 a1 a2 S) (fun r1 S2 =>
  so_gd (so_in (0 : Int32) (so_l S2 a3)) fun _ =>
  so_let (so_sL S2 a3 (0 : Int32).toNatClampNeg r1.toInt64) fun S9 =>
  some ((0 : Int32), S9))
  (fun x3 S4 =>
  if x3 % 64 = 27 then
  (some ((2 : Int32), S4))
  else
  if x3 % 64 = 28 then
  (some ((1 : Int32), S4))
  else
  none)
set_option maxHeartbeats 4000000 in
set_option maxRecDepth 100000 in
theorem wX0_look {res : Int32} {S' : so_St}  (a0 : Nat) (a1 : Int32) (a2 : Int32) (a3 : Nat)  (S : so_St) (k_a0 : a0 % 64 ∈ [0]) (k_a3 : a3 % 64 ∈ [53]) (hf : fX0_look a0 a1 a2 a3 S = some (res, S')) : jx_Sp 1204 yX0_look (wsW_ yX0_look cX0_look 5 (Option.some Jvm.ClassFile.FieldType.int) [(0, 10, 13, 31), (0, 10, 17, 13)]) [.ref a0, .int a1, .int a2, .ref a3] S (.inl (some (.int res))) S' := by
  refine jx_ofW (by decide) (so_le rfl) ?_
  show jg_ (S, S', .inl (some (.int res))) kX0_look 0 [(0, .ref a0), (1, .int a1), (2, .int a2), (3, .ref a3)] [] S
  unfold fX0_look at hf
  refine jr_aload_n dX0_look_0 rfl rfl jv_rr ?_
  refine jr_iconst dX0_look_1 ic_0 ?_
  refine jr_aload_n dX0_look_2 rfl rfl jv_rr ?_
  refine jr_iload_n dX0_look_3 rfl rfl ?_
  refine jr_iload_n dX0_look_4 rfl rfl ?_
  rcases so_b3E hf with ⟨r1, S2, h5, hf⟩ | ⟨x3, S4, h5, hf⟩
  · refine jr_callM (st := [.int (0 : Int32), .ref a3]) lk_X0_62_0 (wX1_look a0 a1 a2 S k_a0 h5) k_a0 rfl rfl rfl (so_le rfl) (so_le rfl) dX0_look_5 ?_
    refine jr_i2l dX0_look_8 ?_
    obtain ⟨g8, hf⟩ := so_gdE hf
    refine jr_lastore (so_m1 k_a3) (so_inE g8) dX0_look_9 ?_
    refine so_let_e hf (fun S9 hf => ?_)
    refine jr_goto (tgt := 21) dX0_look_10 rfl ?_
    refine jr_iconst dX0_look_21 ic_0 ?_
    obtain ⟨rfl, rfl⟩ := so_e2 hf
    exact jr_iret rfl rfl dX0_look_22
  · refine jr_callMX (st := [.int (0 : Int32), .ref a3]) lk_X0_62_0 (wX1_look a0 a1 a2 S k_a0 h5) k_a0 rfl rfl rfl (so_le rfl) (so_le rfl) dX0_look_5 ?_
    by_cases c6 : x3 % 64 = 27
    · have hf := so_t c6 hf
      refine jr_catch (by rw [c6]; decide) (by rw [c6]; decide) [(⟨0, 10, 13, 31⟩ : ExceptionTableEntry)] ⟨0, 10, 17, 13⟩ [] rfl (List.forall_mem_cons.mpr ⟨Or.inr ⟨by decide, c6, q1698⟩, fun _ h => by cases h⟩) rfl (by decide) q863 (by rw [c6]; exact q181) ?_
      refine jr_astore (lv' := [(0, .ref a0), (1, .int a1), (2, .int a2), (3, .ref a3), (4, .ref x3)]) dX0_look_17 (so_le rfl) jv_rr rfl ?_
      refine jr_iconst dX0_look_19 ic_2 ?_
      obtain ⟨rfl, rfl⟩ := so_e2 hf
      exact jr_iret rfl rfl dX0_look_20
    · have hf := so_f c6 hf
      by_cases c7 : x3 % 64 = 28
      · have hf := so_t c7 hf
        refine jr_catch (by rw [c7]; decide) (by rw [c7]; decide) [] ⟨0, 10, 13, 31⟩ [(⟨0, 10, 17, 13⟩ : ExceptionTableEntry)] rfl (fun _ h => by cases h) rfl (by decide) q1698 (by rw [c7]; exact q1713) ?_
        refine jr_astore (lv' := [(0, .ref a0), (1, .int a1), (2, .int a2), (3, .ref a3), (4, .ref x3)]) dX0_look_13 (so_le rfl) jv_rr rfl ?_
        refine jr_iconst dX0_look_15 ic_1 ?_
        obtain ⟨rfl, rfl⟩ := so_e2 hf
        exact jr_iret rfl rfl dX0_look_16
      · have hf := so_f c7 hf
        exact so_no hf

/- X1_way -/
abbrev kX1_way : jx_K := (cX1_way, 7, RX1, 8, (Option.some Jvm.ClassFile.FieldType.int), "way", [])
def LX1_way_41 (f0 : Nat) (f2 : Int32) (f3 : Int32) (f4 : Int32) (k87 : Int32 → so_St → Option ((Int32 ⊕ Nat) × so_St)) : Nat → Int32 → Int32 → so_St → Option ((Int32 ⊕ Nat) × so_St)
  | 0, _, _, _ => none
  | n + 1, v18, v19, S20 =>
    (so_rk (so_R S20 f0 0) [1]).bind fun p21 =>
    if (so_I S20 p21 6) ≤ v19 then
    (k87 v18 S20)
    else
    (so_j (κ := Int32 → Option ((Int32 ⊕ Nat) × so_St)) (ρ := Option ((Int32 ⊕ Nat) × so_St)) (fun (v24 : Int32) =>
    LX1_way_41 f0 f2 f3 f4 k87 n (v18 ||| v24) (v19 + (1 : Int32)) S20)
    (fun J25 =>
    if (fX1_has f3 v19) = (0 : Int32) then
    (J25 (0 : Int32))
    else
    ((so_rk (so_R S20 f0 0) [1]).bind fun p27 =>
    (so_rk (so_R S20 p27 2) [50]).bind fun p29 =>
    so_gd (so_in v19 (so_l S20 p29)) fun _ =>
    J25 (so_I S20 p29 v19.toNatClampNeg))))
set_option maxHeartbeats 4000000 in
set_option maxRecDepth 100000 in
theorem wX1_way_41 {res : Int32 ⊕ Nat} {S' : so_St} {S0 : so_St}   (f0 : Nat) (f2 : Int32) (f3 : Int32) (f4 : Int32)   (k_f0 : f0 % 64 ∈ [0]) (k87 : Int32 → so_St → Option ((Int32 ⊕ Nat) × so_St)) (h87 : ∀ (v32 : Int32) (S33 : so_St), k87 v32 S33 = some (res, S') → jg_ (S0, S', so_oi res) kX1_way 87 [(0, .ref f0), (2, .int f2), (4, .int f4), (5, .int v32)] [] S33) : ∀ (n : Nat) (v18 : Int32) (v19 : Int32) (S20 : so_St), LX1_way_41 f0 f2 f3 f4 k87 n v18 v19 S20 = some (res, S') → jg_ (S0, S', so_oi res) kX1_way 41 [(0, .ref f0), (2, .int f2), (3, .int f3), (4, .int f4), (5, .int v18), (6, .int v19)] [] S20 := by
  intro n
  induction n with
  | zero =>
    intro v18 v19 S20 hf
    exact so_no hf
  | succ n ih =>
    intro v18 v19 S20 hf
    rw [LX1_way_41] at hf
    refine jr_iload dX1_way_41 rfl ?_
    refine jr_aload_n dX1_way_43 rfl rfl jv_rr ?_
    refine jr_getR fl_X1_22_0 k_f0 (so_n26 rfl) dX1_way_44 ?_
    obtain ⟨p21, h22, hf⟩ := so_b hf
    obtain ⟨h22, k_p21⟩ := so_rk_s h22
    refine jr_rf h22 ?_
    refine jr_getI fl_X1_149_1 k_p21 (so_n26 rfl) dX1_way_47 ?_
    refine jr_icmp_ge (tgt := 87) dX1_way_50 rfl (fun c23 => ?_) (fun c23 => ?_)
    · have hf := so_t c23 hf
      refine jr_sub [0, 1, 3, 4] rfl ?_
      exact h87 v18 S20 hf
    · have hf := so_f c23 hf
      refine jr_iload dX1_way_53 rfl ?_
      refine jr_iload_n dX1_way_55 rfl rfl ?_
      refine jr_iload dX1_way_56 rfl ?_
      refine jr_call (st := [.int v18]) lk_X1_349 (wX1_has f3 v19 S20 rfl) jk_r0 rfl rfl (so_le rfl) (so_le rfl) dX1_way_58 ?_
      refine so_jE hf (fun J => ∀ (v24 : Int32), J v24 = some (res, S') → jg_ (S0, S', so_oi res) kX1_way 78 [(0, .ref f0), (2, .int f2), (3, .int f3), (4, .int f4), (6, .int v19)] [.int v24, .int v18] S20) (fun v24 hf => ?_) (fun J25 hJ25 hf => ?_)
      · refine jr_ior dX1_way_78 ?_
        refine jr_istore (lv' := [(0, .ref f0), (2, .int f2), (3, .int f3), (4, .int f4), (5, .int (v18 ||| v24)), (6, .int v19)]) dX1_way_79 (so_le rfl) rfl ?_
        refine jr_iinc (v := v19 + (1 : Int32)) (lv' := [(0, .ref f0), (2, .int f2), (3, .int f3), (4, .int f4), (5, .int (v18 ||| v24)), (6, .int (v19 + (1 : Int32)))]) dX1_way_81 rfl rfl (so_le rfl) rfl ?_
        refine jr_goto (tgt := 41) dX1_way_84 rfl ?_
        exact ih (v18 ||| v24) (v19 + (1 : Int32)) S20 hf
      · refine jr_if_eq (tgt := 77) dX1_way_61 rfl (fun c26 => ?_) (fun c26 => ?_)
        · have hf := so_t c26 hf
          refine jr_iconst dX1_way_77 ic_0 ?_
          refine jr_sub [0, 1, 2, 3, 5] rfl ?_
          exact hJ25 (0 : Int32) hf
        · have hf := so_f c26 hf
          refine jr_aload_n dX1_way_64 rfl rfl jv_rr ?_
          refine jr_getR fl_X1_22_0 k_f0 (so_n26 rfl) dX1_way_65 ?_
          obtain ⟨p27, h28, hf⟩ := so_b hf
          obtain ⟨h28, k_p27⟩ := so_rk_s h28
          refine jr_rf h28 ?_
          refine jr_getR fl_X1_283_1 k_p27 (so_n26 rfl) dX1_way_68 ?_
          obtain ⟨p29, h30, hf⟩ := so_b hf
          obtain ⟨h30, k_p29⟩ := so_rk_s h30
          refine jr_rf h30 ?_
          refine jr_iload dX1_way_71 rfl ?_
          obtain ⟨g31, hf⟩ := so_gdE hf
          refine jr_iaload (so_m1 k_p29) (so_inE g31) dX1_way_73 ?_
          refine jr_goto (tgt := 78) dX1_way_74 rfl ?_
          refine jr_sub [0, 1, 2, 3, 5] rfl ?_
          exact hJ25 (so_I S20 p29 v19.toNatClampNeg) hf
def LX1_way_17 (f0 : Nat) (f2 : Int32) : Nat → Int32 → Int32 → so_St → Option ((Int32 ⊕ Nat) × so_St)
  | 0, _, _, _ => none
  | n + 1, v13, v14, S15 =>
    if (8 : Int32) ≤ v14 then
    (some (.inl (-1 : Int32), S15))
    else
    (if (fX1_has v13 f2) = (0 : Int32) then
    (LX1_way_41 f0 f2 v13 v14 (fun (v34 : Int32) (S35 : so_St) =>
    LX1_way_17 f0 f2 n v34 (v14 + (1 : Int32)) S35) so_N v13 (0 : Int32) S15)
    else
    (some (.inl v14, S15)))
set_option maxHeartbeats 4000000 in
set_option maxRecDepth 100000 in
theorem wX1_way_17 {res : Int32 ⊕ Nat} {S' : so_St} {S0 : so_St}   (f0 : Nat) (f2 : Int32)   (k_f0 : f0 % 64 ∈ [0]) : ∀ (n : Nat) (v13 : Int32) (v14 : Int32) (S15 : so_St), LX1_way_17 f0 f2 n v13 v14 S15 = some (res, S') → jg_ (S0, S', so_oi res) kX1_way 17 [(0, .ref f0), (2, .int f2), (3, .int v13), (4, .int v14)] [] S15 := by
  intro n
  induction n with
  | zero =>
    intro v13 v14 S15 hf
    exact so_no hf
  | succ n ih =>
    intro v13 v14 S15 hf
    rw [LX1_way_17] at hf
    refine jr_iload dX1_way_17 rfl ?_
    refine jr_bipush dX1_way_19 bp_8 ?_
    refine jr_icmp_ge (tgt := 96) dX1_way_21 rfl (fun c16 => ?_) (fun c16 => ?_)
    · have hf := so_t c16 hf
      refine jr_iconst dX1_way_96 ic_m1 ?_
      obtain ⟨rfl, rfl⟩ := so_e2 hf
      exact jr_iret rfl rfl dX1_way_97
    · have hf := so_f c16 hf
      refine jr_iload_n dX1_way_24 rfl rfl ?_
      refine jr_iload_n dX1_way_25 rfl rfl ?_
      refine jr_call (st := []) lk_X1_349 (wX1_has v13 f2 S15 rfl) jk_r0 rfl rfl (so_le rfl) (so_le rfl) dX1_way_26 ?_
      refine jr_if_eq (tgt := 35) dX1_way_29 rfl (fun c17 => ?_) (fun c17 => ?_)
      · have hf := so_t c17 hf
        refine jr_iload_n dX1_way_35 rfl rfl ?_
        refine jr_istore (lv' := [(0, .ref f0), (2, .int f2), (3, .int v13), (4, .int v14), (5, .int v13)]) dX1_way_36 (so_le rfl) rfl ?_
        refine jr_iconst dX1_way_38 ic_0 ?_
        refine jr_istore (lv' := [(0, .ref f0), (2, .int f2), (3, .int v13), (4, .int v14), (5, .int v13), (6, .int (0 : Int32))]) dX1_way_39 (so_le rfl) rfl ?_
        refine wX1_way_41 f0 f2 v13 v14 k_f0 _ (fun v34 S35 hf => ?_) so_N v13 (0 : Int32) S15 hf
        refine jr_iload dX1_way_87 rfl ?_
        refine jr_istore_n (lv' := [(0, .ref f0), (2, .int f2), (3, .int v34), (4, .int v14), (5, .int v34)]) dX1_way_89 rfl (so_le rfl) rfl ?_
        refine jr_iinc (v := v14 + (1 : Int32)) (lv' := [(0, .ref f0), (2, .int f2), (3, .int v34), (4, .int (v14 + (1 : Int32))), (5, .int v34)]) dX1_way_90 rfl rfl (so_le rfl) rfl ?_
        refine jr_goto (tgt := 17) dX1_way_93 rfl ?_
        refine jr_sub [0, 1, 2, 3] rfl ?_
        exact ih v34 (v14 + (1 : Int32)) S35 hf
      · have hf := so_f c17 hf
        refine jr_iload dX1_way_32 rfl ?_
        obtain ⟨rfl, rfl⟩ := so_e2 hf
        exact jr_iret rfl rfl dX1_way_34
def fX1_way (a0 : Nat) (a1 : Int32) (a2 : Int32) (S : so_St) : Option ((Int32 ⊕ Nat) × so_St) :=
  so_b3 (fX1_needHouse a0 a1 S) (fun r1 S2 =>
  so_b3 (fX1_needHouse a0 a2 S2) (fun r7 S8 =>
  LX1_way_17 a0 a2 so_N ((1 : Int32) <<< (a1 &&& 31)) (0 : Int32) S8)
  (fun x9 S10 =>
  so_gd (decide (x9 % 64 ∈ [28])) fun _ =>
  some (.inr x9, S10)))
  (fun x3 S4 =>
  so_gd (decide (x3 % 64 ∈ [28])) fun _ =>
  some (.inr x3, S4))
set_option maxHeartbeats 4000000 in
set_option maxRecDepth 100000 in
theorem wX1_way {res : Int32 ⊕ Nat} {S' : so_St}  (a0 : Nat) (a1 : Int32) (a2 : Int32)  (S : so_St) (k_a0 : a0 % 64 ∈ [0]) (hf : fX1_way a0 a1 a2 S = some (res, S')) : jx_Sp 8 yX1_way (ws_ yX1_way cX1_way 7 (Option.some Jvm.ClassFile.FieldType.int)) [.ref a0, .int a1, .int a2] S (so_oi res) S' := by
  refine jx_of (plainFor_of_name (by decide)) (so_le rfl) ?_
  show jg_ (S, S', so_oi res) kX1_way 0 [(0, .ref a0), (1, .int a1), (2, .int a2)] [] S
  unfold fX1_way at hf
  refine jr_aload_n dX1_way_0 rfl rfl jv_rr ?_
  refine jr_iload_n dX1_way_1 rfl rfl ?_
  rcases so_b3E hf with ⟨r1, S2, h5, hf⟩ | ⟨x3, S4, h5, hf⟩
  · refine jr_callM (st := []) lk_X1_274_0 (wX1_needHouse a0 a1 S k_a0 h5) k_a0 rfl rfl rfl (so_le rfl) (so_le rfl) dX1_way_2 ?_
    refine jr_aload_n dX1_way_5 rfl rfl jv_rr ?_
    refine jr_iload_n dX1_way_6 rfl rfl ?_
    rcases so_b3E hf with ⟨r7, S8, h11, hf⟩ | ⟨x9, S10, h11, hf⟩
    · refine jr_callM (st := []) lk_X1_274_0 (wX1_needHouse a0 a2 S2 k_a0 h11) k_a0 rfl rfl rfl (so_le rfl) (so_le rfl) dX1_way_7 ?_
      refine jr_iconst dX1_way_10 ic_1 ?_
      refine jr_iload_n dX1_way_11 rfl rfl ?_
      refine jr_ishl dX1_way_12 ?_
      refine jr_istore_n (lv' := [(0, .ref a0), (1, .int a1), (2, .int a2), (3, .int ((1 : Int32) <<< (a1 &&& 31)))]) dX1_way_13 rfl (so_le rfl) rfl ?_
      refine jr_iconst dX1_way_14 ic_0 ?_
      refine jr_istore (lv' := [(0, .ref a0), (1, .int a1), (2, .int a2), (3, .int ((1 : Int32) <<< (a1 &&& 31))), (4, .int (0 : Int32))]) dX1_way_15 (so_le rfl) rfl ?_
      refine jr_sub [0, 2, 3, 4] rfl ?_
      refine wX1_way_17 a0 a2 k_a0 so_N ((1 : Int32) <<< (a1 &&& 31)) (0 : Int32) S8 hf
    · refine jr_callMX (st := []) lk_X1_274_0 (wX1_needHouse a0 a2 S2 k_a0 h11) k_a0 rfl rfl rfl (so_le rfl) (so_le rfl) dX1_way_7 ?_
      obtain ⟨g12, hf⟩ := so_gdE hf
      obtain ⟨rfl, rfl⟩ := so_e2 hf
      exact jr_out (so_l29 (of_decide_eq_true g12) rfl).1 (so_l29 (of_decide_eq_true g12) rfl).2 rfl
  · refine jr_callMX (st := []) lk_X1_274_0 (wX1_needHouse a0 a1 S k_a0 h5) k_a0 rfl rfl rfl (so_le rfl) (so_le rfl) dX1_way_2 ?_
    obtain ⟨g6, hf⟩ := so_gdE hf
    obtain ⟨rfl, rfl⟩ := so_e2 hf
    exact jr_out (so_l29 (of_decide_eq_true g6) rfl).1 (so_l29 (of_decide_eq_true g6) rfl).2 rfl

/- X0_way -/
abbrev kX0_way : jx_K := (cX0_way, 5, RX0, 9, (Option.some Jvm.ClassFile.FieldType.int), "way", tableOf [(0, 10, 13, 31)])
def fX0_way (a0 : Nat) (a1 : Int32) (a2 : Int32) (a3 : Nat) (S : so_St) : Option (Int32 × so_St) :=
  so_b3 (fX1_way a0 a1 a2 S) (fun r1 S2 =>
  so_gd (so_in (0 : Int32) (so_l S2 a3)) fun _ =>
  so_let (so_sL S2 a3 (0 : Int32).toNatClampNeg r1.toInt64) fun S8 =>
  some ((0 : Int32), S8))
  (fun x3 S4 =>
  if x3 % 64 = 28 then
  (some ((1 : Int32), S4))
  else
  none)
set_option maxHeartbeats 4000000 in
set_option maxRecDepth 100000 in
theorem wX0_way {res : Int32} {S' : so_St}  (a0 : Nat) (a1 : Int32) (a2 : Int32) (a3 : Nat)  (S : so_St) (k_a0 : a0 % 64 ∈ [0]) (k_a3 : a3 % 64 ∈ [53]) (hf : fX0_way a0 a1 a2 a3 S = some (res, S')) : jx_Sp 9 yX0_way (wsW_ yX0_way cX0_way 5 (Option.some Jvm.ClassFile.FieldType.int) [(0, 10, 13, 31)]) [.ref a0, .int a1, .int a2, .ref a3] S (.inl (some (.int res))) S' := by
  refine jx_ofW (by decide) (so_le rfl) ?_
  show jg_ (S, S', .inl (some (.int res))) kX0_way 0 [(0, .ref a0), (1, .int a1), (2, .int a2), (3, .ref a3)] [] S
  unfold fX0_way at hf
  refine jr_aload_n dX0_way_0 rfl rfl jv_rr ?_
  refine jr_iconst dX0_way_1 ic_0 ?_
  refine jr_aload_n dX0_way_2 rfl rfl jv_rr ?_
  refine jr_iload_n dX0_way_3 rfl rfl ?_
  refine jr_iload_n dX0_way_4 rfl rfl ?_
  rcases so_b3E hf with ⟨r1, S2, h5, hf⟩ | ⟨x3, S4, h5, hf⟩
  · refine jr_callM (st := [.int (0 : Int32), .ref a3]) lk_X0_65_0 (wX1_way a0 a1 a2 S k_a0 h5) k_a0 rfl rfl rfl (so_le rfl) (so_le rfl) dX0_way_5 ?_
    refine jr_i2l dX0_way_8 ?_
    obtain ⟨g7, hf⟩ := so_gdE hf
    refine jr_lastore (so_m1 k_a3) (so_inE g7) dX0_way_9 ?_
    refine so_let_e hf (fun S8 hf => ?_)
    refine jr_goto (tgt := 17) dX0_way_10 rfl ?_
    refine jr_iconst dX0_way_17 ic_0 ?_
    obtain ⟨rfl, rfl⟩ := so_e2 hf
    exact jr_iret rfl rfl dX0_way_18
  · refine jr_callMX (st := [.int (0 : Int32), .ref a3]) lk_X0_65_0 (wX1_way a0 a1 a2 S k_a0 h5) k_a0 rfl rfl rfl (so_le rfl) (so_le rfl) dX0_way_5 ?_
    by_cases c6 : x3 % 64 = 28
    · have hf := so_t c6 hf
      refine jr_catch (by rw [c6]; decide) (by rw [c6]; decide) [] ⟨0, 10, 13, 31⟩ [] rfl (fun _ h => by cases h) rfl (by decide) q1698 (by rw [c6]; exact q1713) ?_
      refine jr_astore (lv' := [(0, .ref a0), (1, .int a1), (2, .int a2), (3, .ref a3), (4, .ref x3)]) dX0_way_13 (so_le rfl) jv_rr rfl ?_
      refine jr_iconst dX0_way_15 ic_1 ?_
      obtain ⟨rfl, rfl⟩ := so_e2 hf
      exact jr_iret rfl rfl dX0_way_16
    · have hf := so_f c6 hf
      exact so_no hf

/- J12_max_2 -/
abbrev kJ12_max_2 : jx_K := (cJ12_max_2, 4, RJ12, 0, (Option.some Jvm.ClassFile.FieldType.long), "max", [])
def fJ12_max_2 (a0 : Int64) (a2 : Int64) : Int64 :=
  if (lg_cmp a0 a2) < (0 : Int32) then
  (a2)
  else
  (a0)
set_option maxHeartbeats 4000000 in
set_option maxRecDepth 100000 in
theorem wJ12_max_2 {res : Int64}  (a0 : Int64) (a2 : Int64)  (S : so_St)  (hf : fJ12_max_2 a0 a2 = res) : jx_Sp 0 yJ12_max_2 (ws_ yJ12_max_2 cJ12_max_2 4 (Option.some Jvm.ClassFile.FieldType.long)) [.long a0, .long a2] S (.inl (some (.long res))) S := by
  refine jx_of (by decide +kernel) (so_le rfl) ?_
  show jg_ (S, S, .inl (some (.long res))) kJ12_max_2 0 [(0, .long a0), (2, .long a2)] [] S
  unfold fJ12_max_2 at hf
  refine jr_lload_n dJ12_max_2_0 rfl rfl ?_
  refine jr_lload_n dJ12_max_2_1 rfl rfl ?_
  refine jr_lcmp dJ12_max_2_2 ?_
  refine jr_if_lt (tgt := 10) dJ12_max_2_3 rfl (fun c1 => ?_) (fun c1 => ?_)
  · have hf := so_t c1 hf
    refine jr_lload_n dJ12_max_2_10 rfl rfl ?_
    obtain rfl := hf
    exact jr_lret rfl dJ12_max_2_11
  · have hf := so_f c1 hf
    refine jr_lload_n dJ12_max_2_6 rfl rfl ?_
    refine jr_goto (tgt := 11) dJ12_max_2_7 rfl ?_
    obtain rfl := hf
    exact jr_lret rfl dJ12_max_2_11

/- X1_bestOf -/
abbrev kX1_bestOf (d0 : Nat) : jx_K := (cX1_bestOf, 9, RX1, d0 + 1, (Option.some Jvm.ClassFile.FieldType.long), "bestOf", [])
def LX1_bestOf_20 (rec : Int32 → Int32 → so_St → Option Int64) (f0 : Int32) (f1 : Int32) (f2 : Int64) (S : so_St) (k39 : Int64 → Option Int64) : Nat → Int64 → Int32 → Option Int64
  | 0, _, _ => none
  | n + 1, v4, v5 =>
    if f0 ≤ v5 then
    (k39 v4)
    else
    (LX1_bestOf_20 rec f0 f1 f2 S k39 n (v4 * f1.toInt64) (v5 + (1 : Int32)))
set_option maxHeartbeats 4000000 in
set_option maxRecDepth 100000 in
theorem wX1_bestOf_20 {d0 : Nat} {res : Int64}  {rec : Int32 → Int32 → so_St → Option Int64} (hrec : ∀ (a0 : Int32) (a1 : Int32) (S : so_St), ∀ {res : Int64}, rec a0 a1 S = some res → jx_Sp d0 yX1_bestOf (ws_ yX1_bestOf cX1_bestOf 9 (Option.some Jvm.ClassFile.FieldType.long)) [.int a0, .int a1] S (.inl (some (.long res))) S) (f0 : Int32) (f1 : Int32) (f2 : Int64)  (S : so_St)  (k39 : Int64 → Option Int64) (h39 : ∀ (v7 : Int64), k39 v7 = some res → jg_ (S, S, .inl (some (.long res))) (kX1_bestOf d0) 39 [(1, .int f1), (2, .long f2), (4, .long v7)] [] S) : ∀ (n : Nat) (v4 : Int64) (v5 : Int32), LX1_bestOf_20 rec f0 f1 f2 S k39 n v4 v5 = some res → jg_ (S, S, .inl (some (.long res))) (kX1_bestOf d0) 20 [(0, .int f0), (1, .int f1), (2, .long f2), (4, .long v4), (6, .int v5)] [] S := by
  intro n
  induction n with
  | zero =>
    intro v4 v5 hf
    exact so_no hf
  | succ n ih =>
    intro v4 v5 hf
    rw [LX1_bestOf_20] at hf
    refine jr_iload dX1_bestOf_20 rfl ?_
    refine jr_iload_n dX1_bestOf_22 rfl rfl ?_
    refine jr_icmp_ge (tgt := 39) dX1_bestOf_23 rfl (fun c6 => ?_) (fun c6 => ?_)
    · have hf := so_t c6 hf
      refine jr_sub [1, 2, 3] rfl ?_
      exact h39 v4 hf
    · have hf := so_f c6 hf
      refine jr_lload dX1_bestOf_26 rfl ?_
      refine jr_iload_n dX1_bestOf_28 rfl rfl ?_
      refine jr_i2l dX1_bestOf_29 ?_
      refine jr_lmul dX1_bestOf_30 ?_
      refine jr_lstore (lv' := [(0, .int f0), (1, .int f1), (2, .long f2), (4, .long (v4 * f1.toInt64)), (6, .int v5)]) dX1_bestOf_31 (so_le rfl) rfl rfl ?_
      refine jr_iinc (v := v5 + (1 : Int32)) (lv' := [(0, .int f0), (1, .int f1), (2, .long f2), (4, .long (v4 * f1.toInt64)), (6, .int (v5 + (1 : Int32)))]) dX1_bestOf_33 rfl rfl (so_le rfl) rfl ?_
      refine jr_goto (tgt := 20) dX1_bestOf_36 rfl ?_
      exact ih (v4 * f1.toInt64) (v5 + (1 : Int32)) hf
def LX1_bestOf_45 (rec : Int32 → Int32 → so_St → Option Int64) (f1 : Int32) (f2 : Int64) (f4 : Int64) (S : so_St) : Nat → Int64 → Int32 → Option Int64
  | 0, _, _ => none
  | n + 1, v9, v10 =>
    if f1 < v10 then
    (some v9)
    else
    (LX1_bestOf_45 rec f1 f2 f4 S n (v9 + (fJ12_max_2 (v10.toInt64 * f4) f2)) (v10 + (1 : Int32)))
set_option maxHeartbeats 4000000 in
set_option maxRecDepth 100000 in
theorem wX1_bestOf_45 {d0 : Nat} {res : Int64}  {rec : Int32 → Int32 → so_St → Option Int64} (hrec : ∀ (a0 : Int32) (a1 : Int32) (S : so_St), ∀ {res : Int64}, rec a0 a1 S = some res → jx_Sp d0 yX1_bestOf (ws_ yX1_bestOf cX1_bestOf 9 (Option.some Jvm.ClassFile.FieldType.long)) [.int a0, .int a1] S (.inl (some (.long res))) S) (f1 : Int32) (f2 : Int64) (f4 : Int64)  (S : so_St)  : ∀ (n : Nat) (v9 : Int64) (v10 : Int32), LX1_bestOf_45 rec f1 f2 f4 S n v9 v10 = some res → jg_ (S, S, .inl (some (.long res))) (kX1_bestOf d0) 45 [(1, .int f1), (2, .long f2), (4, .long f4), (6, .long v9), (8, .int v10)] [] S := by
  intro n
  induction n with
  | zero =>
    intro v9 v10 hf
    exact so_no hf
  | succ n ih =>
    intro v9 v10 hf
    rw [LX1_bestOf_45] at hf
    refine jr_iload dX1_bestOf_45 rfl ?_
    refine jr_iload_n dX1_bestOf_47 rfl rfl ?_
    refine jr_icmp_gt (tgt := 72) dX1_bestOf_48 rfl (fun c11 => ?_) (fun c11 => ?_)
    · have hf := so_t c11 hf
      refine jr_lload dX1_bestOf_72 rfl ?_
      obtain rfl := so_e1 hf
      exact jr_lret rfl dX1_bestOf_74
    · have hf := so_f c11 hf
      refine jr_lload dX1_bestOf_51 rfl ?_
      refine jr_iload dX1_bestOf_53 rfl ?_
      refine jr_i2l dX1_bestOf_55 ?_
      refine jr_lload dX1_bestOf_56 rfl ?_
      refine jr_lmul dX1_bestOf_58 ?_
      refine jr_lload_n dX1_bestOf_59 rfl rfl ?_
      refine jr_call (st := [.long v9]) lk_X1_385 (wJ12_max_2 (v10.toInt64 * f4) f2 S rfl) jk_r0 rfl rfl (so_le rfl) (show 0 + 1 ≤ d0 + 1 by omega) dX1_bestOf_60 ?_
      refine jr_ladd dX1_bestOf_63 ?_
      refine jr_lstore (lv' := [(1, .int f1), (2, .long f2), (4, .long f4), (6, .long (v9 + (fJ12_max_2 (v10.toInt64 * f4) f2))), (8, .int v10)]) dX1_bestOf_64 (so_le rfl) rfl rfl ?_
      refine jr_iinc (v := v10 + (1 : Int32)) (lv' := [(1, .int f1), (2, .long f2), (4, .long f4), (6, .long (v9 + (fJ12_max_2 (v10.toInt64 * f4) f2))), (8, .int (v10 + (1 : Int32)))]) dX1_bestOf_66 rfl rfl (so_le rfl) rfl ?_
      refine jr_goto (tgt := 45) dX1_bestOf_69 rfl ?_
      exact ih (v9 + (fJ12_max_2 (v10.toInt64 * f4) f2)) (v10 + (1 : Int32)) hf
def fX1_bestOf (rec : Int32 → Int32 → so_St → Option Int64) (a0 : Int32) (a1 : Int32) (S : so_St) : Option Int64 :=
  if a0 = (0 : Int32) then
  (some (0 : Int64))
  else
  ((rec (a0 - (1 : Int32)) a1 S).bind fun r3 =>
  LX1_bestOf_20 rec a0 a1 r3 S (fun (v8 : Int64) =>
  LX1_bestOf_45 rec a1 r3 v8 S so_N (0 : Int64) (1 : Int32)) so_N (1 : Int64) (1 : Int32))
set_option maxHeartbeats 4000000 in
set_option maxRecDepth 100000 in
theorem wX1_bestOf {d0 : Nat} {res : Int64} {rec : Int32 → Int32 → so_St → Option Int64} (hrec : ∀ (a0 : Int32) (a1 : Int32) (S : so_St), ∀ {res : Int64}, rec a0 a1 S = some res → jx_Sp d0 yX1_bestOf (ws_ yX1_bestOf cX1_bestOf 9 (Option.some Jvm.ClassFile.FieldType.long)) [.int a0, .int a1] S (.inl (some (.long res))) S) (a0 : Int32) (a1 : Int32)  (S : so_St)  (hf : fX1_bestOf rec a0 a1 S = some res) : jx_Sp (d0 + 1) yX1_bestOf (ws_ yX1_bestOf cX1_bestOf 9 (Option.some Jvm.ClassFile.FieldType.long)) [.int a0, .int a1] S (.inl (some (.long res))) S := by
  refine jx_of (plainFor_of_name (by decide)) (so_le rfl) ?_
  show jg_ (S, S, .inl (some (.long res))) (kX1_bestOf d0) 0 [(0, .int a0), (1, .int a1)] [] S
  unfold fX1_bestOf at hf
  refine jr_iload_n dX1_bestOf_0 rfl rfl ?_
  refine jr_if_ne (tgt := 6) dX1_bestOf_1 rfl (fun c1 => ?_) (fun c1 => ?_)
  · have hf := so_f c1 hf
    refine jr_iload_n dX1_bestOf_6 rfl rfl ?_
    refine jr_iconst dX1_bestOf_7 ic_1 ?_
    refine jr_isub dX1_bestOf_8 ?_
    refine jr_iload_n dX1_bestOf_9 rfl rfl ?_
    obtain ⟨r3, h2, hf⟩ := so_b hf
    refine jr_call (st := []) lk_X1_381 (hrec (a0 - (1 : Int32)) a1 S h2) jk_r0 rfl rfl (so_le rfl) (show d0 + 0 + 1 ≤ d0 + 1 by omega) dX1_bestOf_10 ?_
    refine jr_lstore_n (lv' := [(0, .int a0), (1, .int a1), (2, .long r3)]) dX1_bestOf_13 rfl (so_le rfl) rfl rfl ?_
    refine jr_lconst dX1_bestOf_14 lc_1 ?_
    refine jr_lstore (lv' := [(0, .int a0), (1, .int a1), (2, .long r3), (4, .long (1 : Int64))]) dX1_bestOf_15 (so_le rfl) rfl rfl ?_
    refine jr_iconst dX1_bestOf_17 ic_1 ?_
    refine jr_istore (lv' := [(0, .int a0), (1, .int a1), (2, .long r3), (4, .long (1 : Int64)), (6, .int (1 : Int32))]) dX1_bestOf_18 (so_le rfl) rfl ?_
    refine wX1_bestOf_20 hrec a0 a1 r3 S _ (fun v8 hf => ?_) so_N (1 : Int64) (1 : Int32) hf
    refine jr_lconst dX1_bestOf_39 lc_0 ?_
    refine jr_lstore (lv' := [(1, .int a1), (2, .long r3), (4, .long v8), (6, .long (0 : Int64))]) dX1_bestOf_40 (so_le rfl) rfl rfl ?_
    refine jr_iconst dX1_bestOf_42 ic_1 ?_
    refine jr_istore (lv' := [(1, .int a1), (2, .long r3), (4, .long v8), (6, .long (0 : Int64)), (8, .int (1 : Int32))]) dX1_bestOf_43 (so_le rfl) rfl ?_
    refine wX1_bestOf_45 hrec a1 r3 v8 S so_N (0 : Int64) (1 : Int32) hf
  · have hf := so_t c1 hf
    refine jr_lconst dX1_bestOf_4 lc_0 ?_
    obtain rfl := so_e1 hf
    exact jr_lret rfl dX1_bestOf_5

/- C:X1_bestOf -/
def fcX1_bestOf : Nat → Int32 → Int32 → so_St → Option Int64
  | 0 => fun _ _ _ => none
  | n + 1 => fX1_bestOf (fcX1_bestOf n)
theorem wcX1_bestOf : ∀ (n : Nat), ∀ (a0 : Int32) (a1 : Int32) (S : so_St), ∀ {res : Int64}, fcX1_bestOf n a0 a1 S = some res → jx_Sp (1 * n) yX1_bestOf (ws_ yX1_bestOf cX1_bestOf 9 (Option.some Jvm.ClassFile.FieldType.long)) [.int a0, .int a1] S (.inl (some (.long res))) S := by
  intro n
  induction n with
  | zero =>
    intros
    rename_i hf
    exact so_no hf
  | succ n ih =>
    exact fun a0 a1 S _ hf => wX1_bestOf ih a0 a1 S hf


/- X1_price -/
abbrev kX1_price : jx_K := (cX1_price, 14, RX1, 13, (Option.some Jvm.ClassFile.FieldType.long), "price", [])
def LX1_price_49 (f1 : Int32) (f2 : Int32) (f3 : Int32) (f4 : Int64) (k68 : Int64 → so_St → Option ((Int64 ⊕ Nat) × so_St)) : Nat → Int64 → Int32 → so_St → Option ((Int64 ⊕ Nat) × so_St)
  | 0, _, _, _ => none
  | n + 1, v11, v12, S13 =>
    if f1 ≤ v12 then
    (k68 v11 S13)
    else
    (LX1_price_49 f1 f2 f3 f4 k68 n (v11 * f2.toInt64) (v12 + (1 : Int32)) S13)
set_option maxHeartbeats 4000000 in
set_option maxRecDepth 100000 in
theorem wX1_price_49 {res : Int64 ⊕ Nat} {S' : so_St} {S0 : so_St}   (f1 : Int32) (f2 : Int32) (f3 : Int32) (f4 : Int64)    (k68 : Int64 → so_St → Option ((Int64 ⊕ Nat) × so_St)) (h68 : ∀ (v15 : Int64) (S16 : so_St), k68 v15 S16 = some (res, S') → jg_ (S0, S', so_ol res) kX1_price 68 [(3, .int f3), (4, .long f4), (6, .long v15)] [] S16) : ∀ (n : Nat) (v11 : Int64) (v12 : Int32) (S13 : so_St), LX1_price_49 f1 f2 f3 f4 k68 n v11 v12 S13 = some (res, S') → jg_ (S0, S', so_ol res) kX1_price 49 [(1, .int f1), (2, .int f2), (3, .int f3), (4, .long f4), (6, .long v11), (8, .int v12)] [] S13 := by
  intro n
  induction n with
  | zero =>
    intro v11 v12 S13 hf
    exact so_no hf
  | succ n ih =>
    intro v11 v12 S13 hf
    rw [LX1_price_49] at hf
    refine jr_iload dX1_price_49 rfl ?_
    refine jr_iload_n dX1_price_51 rfl rfl ?_
    refine jr_icmp_ge (tgt := 68) dX1_price_52 rfl (fun c14 => ?_) (fun c14 => ?_)
    · have hf := so_t c14 hf
      refine jr_sub [2, 3, 4] rfl ?_
      exact h68 v11 S13 hf
    · have hf := so_f c14 hf
      refine jr_lload dX1_price_55 rfl ?_
      refine jr_iload_n dX1_price_57 rfl rfl ?_
      refine jr_i2l dX1_price_58 ?_
      refine jr_lmul dX1_price_59 ?_
      refine jr_lstore (lv' := [(1, .int f1), (2, .int f2), (3, .int f3), (4, .long f4), (6, .long (v11 * f2.toInt64)), (8, .int v12)]) dX1_price_60 (so_le rfl) rfl rfl ?_
      refine jr_iinc (v := v12 + (1 : Int32)) (lv' := [(1, .int f1), (2, .int f2), (3, .int f3), (4, .long f4), (6, .long (v11 * f2.toInt64)), (8, .int (v12 + (1 : Int32)))]) dX1_price_62 rfl rfl (so_le rfl) rfl ?_
      refine jr_goto (tgt := 49) dX1_price_65 rfl ?_
      exact ih (v11 * f2.toInt64) (v12 + (1 : Int32)) S13 hf
def LX1_price_76 (f3 : Int32) (f4 : Int64) (f6 : Int64) (k101 : Int64 → so_St → Option ((Int64 ⊕ Nat) × so_St)) : Nat → Int64 → Int64 → so_St → Option ((Int64 ⊕ Nat) × so_St)
  | 0, _, _, _ => none
  | n + 1, v19, v20, S21 =>
    if (lg_cmp v20 (0 : Int64)) = (0 : Int32) then
    (k101 v19 S21)
    else
    (so_gd (so_ne0L v20) fun _ =>
    LX1_price_76 f3 f4 f6 k101 n v20 (v19 - v19 / v20 * v20) S21)
set_option maxHeartbeats 4000000 in
set_option maxRecDepth 100000 in
theorem wX1_price_76 {res : Int64 ⊕ Nat} {S' : so_St} {S0 : so_St}   (f3 : Int32) (f4 : Int64) (f6 : Int64)    (k101 : Int64 → so_St → Option ((Int64 ⊕ Nat) × so_St)) (h101 : ∀ (v24 : Int64) (S25 : so_St), k101 v24 S25 = some (res, S') → jg_ (S0, S', so_ol res) kX1_price 101 [(3, .int f3), (4, .long f4), (6, .long f6), (8, .long v24)] [] S25) : ∀ (n : Nat) (v19 : Int64) (v20 : Int64) (S21 : so_St), LX1_price_76 f3 f4 f6 k101 n v19 v20 S21 = some (res, S') → jg_ (S0, S', so_ol res) kX1_price 76 [(3, .int f3), (4, .long f4), (6, .long f6), (8, .long v19), (10, .long v20)] [] S21 := by
  intro n
  induction n with
  | zero =>
    intro v19 v20 S21 hf
    exact so_no hf
  | succ n ih =>
    intro v19 v20 S21 hf
    rw [LX1_price_76] at hf
    refine jr_lload dX1_price_76 rfl ?_
    refine jr_lconst dX1_price_78 lc_0 ?_
    refine jr_lcmp dX1_price_79 ?_
    refine jr_if_eq (tgt := 101) dX1_price_80 rfl (fun c22 => ?_) (fun c22 => ?_)
    · have hf := so_t c22 hf
      refine jr_sub [0, 1, 2, 3] rfl ?_
      exact h101 v19 S21 hf
    · have hf := so_f c22 hf
      refine jr_lload dX1_price_83 rfl ?_
      refine jr_lload dX1_price_85 rfl ?_
      obtain ⟨g23, hf⟩ := so_gdE hf
      refine jr_lrem dX1_price_87 (so_ne0LE g23) ?_
      refine jr_lstore (lv' := [(3, .int f3), (4, .long f4), (6, .long f6), (8, .long v19), (10, .long v20), (12, .long (v19 - v19 / v20 * v20))]) dX1_price_88 (so_le rfl) rfl rfl ?_
      refine jr_lload dX1_price_90 rfl ?_
      refine jr_lstore (lv' := [(3, .int f3), (4, .long f4), (6, .long f6), (8, .long v20), (10, .long v20), (12, .long (v19 - v19 / v20 * v20))]) dX1_price_92 (so_le rfl) rfl rfl ?_
      refine jr_lload dX1_price_94 rfl ?_
      refine jr_lstore (lv' := [(3, .int f3), (4, .long f4), (6, .long f6), (8, .long v20), (10, .long (v19 - v19 / v20 * v20)), (12, .long (v19 - v19 / v20 * v20))]) dX1_price_96 (so_le rfl) rfl rfl ?_
      refine jr_goto (tgt := 76) dX1_price_98 rfl ?_
      refine jr_sub [0, 1, 2, 3, 4] rfl ?_
      exact ih v20 (v19 - v19 / v20 * v20) S21 hf
def fX1_price (a0 : Nat) (a1 : Int32) (a2 : Int32) (a3 : Int32) (S : so_St) : Option ((Int64 ⊕ Nat) × so_St) :=
  so_j (κ := Int32 → Option ((Int64 ⊕ Nat) × so_St)) (ρ := Option ((Int64 ⊕ Nat) × so_St)) (fun (v1 : Int32) =>
  so_b3 (fX1_need a0 v1 S) (fun r3 S4 =>
  (fcX1_bestOf 12 a1 a2 S4).bind fun r10 =>
  LX1_price_49 a1 a2 a3 r10 (fun (v17 : Int64) (S18 : so_St) =>
  LX1_price_76 a3 r10 v17 (fun (v26 : Int64) (S27 : so_St) =>
  so_j (κ := Int64 → Option ((Int64 ⊕ Nat) × so_St)) (ρ := Option ((Int64 ⊕ Nat) × so_St)) (fun (v28 : Int64) =>
  so_gd (so_ne0L v26) fun _ =>
  some (.inl (v28 / v26), S27))
  (fun J29 =>
  if a3 = (0 : Int32) then
  (J29 r10)
  else
  (J29 v17))) so_N r10 v17 S18) so_N (1 : Int64) (0 : Int32) S4)
  (fun x5 S6 =>
  so_gd (decide (x5 % 64 ∈ [27])) fun _ =>
  some (.inr x5, S6)))
  (fun J2 =>
  so_j (κ := Unit → Option ((Int64 ⊕ Nat) × so_St)) (ρ := Option ((Int64 ⊕ Nat) × so_St)) (fun (_u : Unit) =>
  J2 (0 : Int32))
  (fun J32 =>
  if (fX1_isIn a1 (1 : Int32) (6 : Int32)) = (0 : Int32) then
  (J32 ())
  else
  (if (fX1_isIn a2 (1 : Int32) (9 : Int32)) = (0 : Int32) then
  (J32 ())
  else
  (if (fX1_isPart a3) = (0 : Int32) then
  (J32 ())
  else
  (J2 (1 : Int32))))))
set_option maxHeartbeats 4000000 in
set_option maxRecDepth 100000 in
theorem wX1_price {res : Int64 ⊕ Nat} {S' : so_St}  (a0 : Nat) (a1 : Int32) (a2 : Int32) (a3 : Int32)  (S : so_St) (k_a0 : a0 % 64 ∈ [0]) (hf : fX1_price a0 a1 a2 a3 S = some (res, S')) : jx_Sp 13 yX1_price (ws_ yX1_price cX1_price 14 (Option.some Jvm.ClassFile.FieldType.long)) [.ref a0, .int a1, .int a2, .int a3] S (so_ol res) S' := by
  refine jx_of (plainFor_of_name (by decide)) (so_le rfl) ?_
  show jg_ (S, S', so_ol res) kX1_price 0 [(0, .ref a0), (1, .int a1), (2, .int a2), (3, .int a3)] [] S
  unfold fX1_price at hf
  refine jr_aload_n dX1_price_0 rfl rfl jv_rr ?_
  refine jr_iload_n dX1_price_1 rfl rfl ?_
  refine jr_iconst dX1_price_2 ic_1 ?_
  refine jr_bipush dX1_price_3 bp_6 ?_
  refine jr_call (st := [.ref a0]) lk_X1_246 (wX1_isIn a1 (1 : Int32) (6 : Int32) S rfl) jk_r0 rfl rfl (so_le rfl) (so_le rfl) dX1_price_5 ?_
  refine so_jE hf (fun J => ∀ (v1 : Int32), J v1 = some (res, S') → jg_ (S, S', so_ol res) kX1_price 33 [(1, .int a1), (2, .int a2), (3, .int a3)] [.int v1, .ref a0] S) (fun v1 hf => ?_) (fun J2 hJ2 hf => ?_)
  · rcases so_b3E hf with ⟨r3, S4, h7, hf⟩ | ⟨x5, S6, h7, hf⟩
    · refine jr_callM (st := []) lk_X1_172_0 (wX1_need a0 v1 S k_a0 h7) k_a0 rfl rfl rfl (so_le rfl) (so_le rfl) dX1_price_33 ?_
      refine jr_iload_n dX1_price_36 rfl rfl ?_
      refine jr_iload_n dX1_price_37 rfl rfl ?_
      obtain ⟨r10, h9, hf⟩ := so_b hf
      refine jr_call (st := []) lk_X1_381 (wcX1_bestOf 12 a1 a2 S4 h9) jk_r0 rfl rfl (so_le rfl) (so_le rfl) dX1_price_38 ?_
      refine jr_lstore (lv' := [(1, .int a1), (2, .int a2), (3, .int a3), (4, .long r10)]) dX1_price_41 (so_le rfl) rfl rfl ?_
      refine jr_lconst dX1_price_43 lc_1 ?_
      refine jr_lstore (lv' := [(1, .int a1), (2, .int a2), (3, .int a3), (4, .long r10), (6, .long (1 : Int64))]) dX1_price_44 (so_le rfl) rfl rfl ?_
      refine jr_iconst dX1_price_46 ic_0 ?_
      refine jr_istore (lv' := [(1, .int a1), (2, .int a2), (3, .int a3), (4, .long r10), (6, .long (1 : Int64)), (8, .int (0 : Int32))]) dX1_price_47 (so_le rfl) rfl ?_
      refine wX1_price_49 a1 a2 a3 r10 _ (fun v17 S18 hf => ?_) so_N (1 : Int64) (0 : Int32) S4 hf
      refine jr_lload dX1_price_68 rfl ?_
      refine jr_lstore (lv' := [(3, .int a3), (4, .long r10), (6, .long v17), (8, .long r10)]) dX1_price_70 (so_le rfl) rfl rfl ?_
      refine jr_lload dX1_price_72 rfl ?_
      refine jr_lstore (lv' := [(3, .int a3), (4, .long r10), (6, .long v17), (8, .long r10), (10, .long v17)]) dX1_price_74 (so_le rfl) rfl rfl ?_
      refine wX1_price_76 a3 r10 v17 _ (fun v26 S27 hf => ?_) so_N r10 v17 S18 hf
      refine jr_iload_n dX1_price_101 rfl rfl ?_
      refine so_jE hf (fun J => ∀ (v28 : Int64), J v28 = some (res, S') → jg_ (S, S', so_ol res) kX1_price 112 [(8, .long v26)] [.long v28] S27) (fun v28 hf => ?_) (fun J29 hJ29 hf => ?_)
      · refine jr_lload dX1_price_112 rfl ?_
        obtain ⟨g30, hf⟩ := so_gdE hf
        refine jr_ldiv dX1_price_114 (so_ne0LE g30) ?_
        obtain ⟨rfl, rfl⟩ := so_e2 hf
        exact jr_lret rfl dX1_price_115
      · refine jr_if_ne (tgt := 110) dX1_price_102 rfl (fun c31 => ?_) (fun c31 => ?_)
        · have hf := so_f c31 hf
          refine jr_lload dX1_price_110 rfl ?_
          refine jr_sub [3] rfl ?_
          exact hJ29 v17 hf
        · have hf := so_t c31 hf
          refine jr_lload dX1_price_105 rfl ?_
          refine jr_goto (tgt := 112) dX1_price_107 rfl ?_
          refine jr_sub [3] rfl ?_
          exact hJ29 r10 hf
    · refine jr_callMX (st := []) lk_X1_172_0 (wX1_need a0 v1 S k_a0 h7) k_a0 rfl rfl rfl (so_le rfl) (so_le rfl) dX1_price_33 ?_
      obtain ⟨g8, hf⟩ := so_gdE hf
      obtain ⟨rfl, rfl⟩ := so_e2 hf
      exact jr_out (so_l29 (of_decide_eq_true g8) rfl).1 (so_l29 (of_decide_eq_true g8) rfl).2 rfl
  · refine so_jE hf (fun J => ∀ (u0 : Unit), J u0 = some (res, S') → jg_ (S, S', so_ol res) kX1_price 32 [(1, .int a1), (2, .int a2), (3, .int a3)] [.ref a0] S) (fun _u hf => ?_) (fun J32 hJ32 hf => ?_)
    · refine jr_iconst dX1_price_32 ic_0 ?_
      exact hJ2 (0 : Int32) hf
    · refine jr_if_eq (tgt := 32) dX1_price_8 rfl (fun c33 => ?_) (fun c33 => ?_)
      · have hf := so_t c33 hf
        refine jr_sub [1, 2, 3] rfl ?_
        exact hJ32 () hf
      · have hf := so_f c33 hf
        refine jr_iload_n dX1_price_11 rfl rfl ?_
        refine jr_iconst dX1_price_12 ic_1 ?_
        refine jr_bipush dX1_price_13 bp_9 ?_
        refine jr_call (st := [.ref a0]) lk_X1_246 (wX1_isIn a2 (1 : Int32) (9 : Int32) S rfl) jk_r0 rfl rfl (so_le rfl) (so_le rfl) dX1_price_15 ?_
        refine jr_if_eq (tgt := 32) dX1_price_18 rfl (fun c34 => ?_) (fun c34 => ?_)
        · have hf := so_t c34 hf
          refine jr_sub [1, 2, 3] rfl ?_
          exact hJ32 () hf
        · have hf := so_f c34 hf
          refine jr_iload_n dX1_price_21 rfl rfl ?_
          refine jr_call (st := [.ref a0]) lk_X1_296 (wX1_isPart a3 S rfl) jk_r0 rfl rfl (so_le rfl) (so_le rfl) dX1_price_22 ?_
          refine jr_if_eq (tgt := 32) dX1_price_25 rfl (fun c35 => ?_) (fun c35 => ?_)
          · have hf := so_t c35 hf
            refine jr_sub [1, 2, 3] rfl ?_
            exact hJ32 () hf
          · have hf := so_f c35 hf
            refine jr_iconst dX1_price_28 ic_1 ?_
            refine jr_goto (tgt := 33) dX1_price_29 rfl ?_
            refine jr_sub [1, 2, 3] rfl ?_
            exact hJ2 (1 : Int32) hf

/- X0_price -/
abbrev kX0_price : jx_K := (cX0_price, 6, RX0, 14, (Option.some Jvm.ClassFile.FieldType.int), "price", tableOf [(0, 11, 14, 13)])
def fX0_price (a0 : Nat) (a1 : Int32) (a2 : Int32) (a3 : Int32) (a4 : Nat) (S : so_St) : Option (Int32 × so_St) :=
  so_b3 (fX1_price a0 a1 a2 a3 S) (fun r1 S2 =>
  so_gd (so_in (0 : Int32) (so_l S2 a4)) fun _ =>
  so_let (so_sL S2 a4 (0 : Int32).toNatClampNeg r1) fun S8 =>
  some ((0 : Int32), S8))
  (fun x3 S4 =>
  if x3 % 64 = 27 then
  (some ((1 : Int32), S4))
  else
  none)
set_option maxHeartbeats 4000000 in
set_option maxRecDepth 100000 in
theorem wX0_price {res : Int32} {S' : so_St}  (a0 : Nat) (a1 : Int32) (a2 : Int32) (a3 : Int32) (a4 : Nat)  (S : so_St) (k_a0 : a0 % 64 ∈ [0]) (k_a4 : a4 % 64 ∈ [53]) (hf : fX0_price a0 a1 a2 a3 a4 S = some (res, S')) : jx_Sp 14 yX0_price (wsW_ yX0_price cX0_price 6 (Option.some Jvm.ClassFile.FieldType.int) [(0, 11, 14, 13)]) [.ref a0, .int a1, .int a2, .int a3, .ref a4] S (.inl (some (.int res))) S' := by
  refine jx_ofW (by decide) (so_le rfl) ?_
  show jg_ (S, S', .inl (some (.int res))) kX0_price 0 [(0, .ref a0), (1, .int a1), (2, .int a2), (3, .int a3), (4, .ref a4)] [] S
  unfold fX0_price at hf
  refine jr_aload dX0_price_0 rfl jv_rr ?_
  refine jr_iconst dX0_price_2 ic_0 ?_
  refine jr_aload_n dX0_price_3 rfl rfl jv_rr ?_
  refine jr_iload_n dX0_price_4 rfl rfl ?_
  refine jr_iload_n dX0_price_5 rfl rfl ?_
  refine jr_iload_n dX0_price_6 rfl rfl ?_
  rcases so_b3E hf with ⟨r1, S2, h5, hf⟩ | ⟨x3, S4, h5, hf⟩
  · refine jr_callM (st := [.int (0 : Int32), .ref a4]) lk_X0_68_0 (wX1_price a0 a1 a2 a3 S k_a0 h5) k_a0 rfl rfl rfl (so_le rfl) (so_le rfl) dX0_price_7 ?_
    obtain ⟨g7, hf⟩ := so_gdE hf
    refine jr_lastore (so_m1 k_a4) (so_inE g7) dX0_price_10 ?_
    refine so_let_e hf (fun S8 hf => ?_)
    refine jr_goto (tgt := 18) dX0_price_11 rfl ?_
    refine jr_iconst dX0_price_18 ic_0 ?_
    obtain ⟨rfl, rfl⟩ := so_e2 hf
    exact jr_iret rfl rfl dX0_price_19
  · refine jr_callMX (st := [.int (0 : Int32), .ref a4]) lk_X0_68_0 (wX1_price a0 a1 a2 a3 S k_a0 h5) k_a0 rfl rfl rfl (so_le rfl) (so_le rfl) dX0_price_7 ?_
    by_cases c6 : x3 % 64 = 27
    · have hf := so_t c6 hf
      refine jr_catch (by rw [c6]; decide) (by rw [c6]; decide) [] ⟨0, 11, 14, 13⟩ [] rfl (fun _ h => by cases h) rfl (by decide) q863 (by rw [c6]; exact q181) ?_
      refine jr_astore (lv' := [(0, .ref a0), (1, .int a1), (2, .int a2), (3, .int a3), (4, .ref a4), (5, .ref x3)]) dX0_price_14 (so_le rfl) jv_rr rfl ?_
      refine jr_iconst dX0_price_16 ic_1 ?_
      obtain ⟨rfl, rfl⟩ := so_e2 hf
      exact jr_iret rfl rfl dX0_price_17
    · have hf := so_f c6 hf
      exact so_no hf
