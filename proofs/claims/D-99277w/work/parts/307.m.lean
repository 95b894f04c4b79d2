/-! printed: functions and walks -/
set_option maxRecDepth 100000
set_option linter.unusedVariables false
/- VP:of -/
def VP_of (d : Nat) (a0 a1 : Nat) (S : so_St) (res : Int32) : Prop := a0 % 64 ∈ [6, 7, 8, 9, 10, 11, 12, 20, 21] ∧ (a0 % 64 ∈ [6] → ∃ d', d' ≤ d ∧ jx_Sp d' yX14_of (ws_ yX14_of cX14_of 2 (Option.some Jvm.ClassFile.FieldType.int)) [.ref a0, .ref a1] S (.inl (some (.int res))) S) ∧ (a0 % 64 ∈ [7, 8, 9, 10, 11, 12, 20] → ∃ d', d' ≤ d ∧ jx_Sp d' yX4_of (ws_ yX4_of cX4_of 2 (Option.some Jvm.ClassFile.FieldType.int)) [.ref a0, .ref a1] S (.inl (some (.int res))) S) ∧ (a0 % 64 ∈ [21] → ∃ d', d' ≤ d ∧ jx_Sp d' yX6_of (ws_ yX6_of cX6_of 2 (Option.some Jvm.ClassFile.FieldType.int)) [.ref a0, .ref a1] S (.inl (some (.int res))) S)

/- X14_of -/
abbrev kX14_of : jx_K := (cX14_of, 2, RX14, 0, (Option.some Jvm.ClassFile.FieldType.int), "of", [])
def fX14_of (a0 : Nat) (a1 : Nat) (S : so_St) : Option Int32 :=
  some (so_I S a0 0)
set_option maxHeartbeats 4000000 in
set_option maxRecDepth 100000 in
theorem wX14_of {res : Int32}  (a0 : Nat) (a1 : Nat)  (S : so_St) (k_a0 : a0 % 64 ∈ [6]) (k_a1 : a1 % 64 ∈ [50]) (hf : fX14_of a0 a1 S = some res) : jx_Sp 0 yX14_of (ws_ yX14_of cX14_of 2 (Option.some Jvm.ClassFile.FieldType.int)) [.ref a0, .ref a1] S (.inl (some (.int res))) S := by
  refine jx_of (plainFor_of_name (by decide)) (so_le rfl) ?_
  show jg_ (S, S, .inl (some (.int res))) kX14_of 0 [(0, .ref a0), (1, .ref a1)] [] S
  unfold fX14_of at hf
  refine jr_aload_n dX14_of_0 rfl rfl jv_rr ?_
  refine jr_getI fl_X14_7_6 k_a0 (so_n26 rfl) dX14_of_1 ?_
  obtain rfl := so_e1 hf
  exact jr_iret rfl rfl dX14_of_4

/- SITE:of -/
theorem vs_of_X1_128 {d : Nat} {a0 a1 : Nat} {S : so_St} {res : Int32} (h : VP_of d a0 a1 S res) : jx_VS RX1 (.invokevirtual 128) 2 (d + 1) a0 [.ref a1] S (.inl (some (.int res))) S := by
  obtain ⟨h0, h1, h2, h3⟩ := h
  have h00 := h0
  simp only [List.mem_cons, List.not_mem_nil, or_false] at h00
  rcases h00 with e | e | e | e | e | e | e | e | e
  · obtain ⟨d', hd, hS⟩ := h1 (by rw [e]; decide)
    exact ⟨by omega, by omega, d', _, _, (by rw [e]; exact jk_A (C := RX14) (owner := "TunedHouses$Term") q1555 q1554 q1556 q1596 q1563 q131 q1564 (by decide +kernel) (so_le rfl)), hS, by omega⟩
  · obtain ⟨d', hd, hS⟩ := h2 (by rw [e]; decide)
    exact ⟨by omega, by omega, d', _, _, (by rw [e]; exact jk_A (C := RX15) (owner := "TunedHouses$Term") q1555 q1554 q1556 q1592 q1558 q121 q1559 (by decide +kernel) (so_le rfl)), hS, by omega⟩
  · obtain ⟨d', hd, hS⟩ := h2 (by rw [e]; decide)
    exact ⟨by omega, by omega, d', _, _, (by rw [e]; exact jk_A (C := RX16) (owner := "TunedHouses$Term") q1555 q1554 q1556 q1595 q1558 q121 q1559 (by decide +kernel) (so_le rfl)), hS, by omega⟩
  · obtain ⟨d', hd, hS⟩ := h2 (by rw [e]; decide)
    exact ⟨by omega, by omega, d', _, _, (by rw [e]; exact jk_A (C := RX17) (owner := "TunedHouses$Term") q1555 q1554 q1556 q1598 q1558 q121 q1559 (by decide +kernel) (so_le rfl)), hS, by omega⟩
  · obtain ⟨d', hd, hS⟩ := h2 (by rw [e]; decide)
    exact ⟨by omega, by omega, d', _, _, (by rw [e]; exact jk_A (C := RX18) (owner := "TunedHouses$Term") q1555 q1554 q1556 q1557 q1558 q121 q1559 (by decide +kernel) (so_le rfl)), hS, by omega⟩
  · obtain ⟨d', hd, hS⟩ := h2 (by rw [e]; decide)
    exact ⟨by omega, by omega, d', _, _, (by rw [e]; exact jk_A (C := RX19) (owner := "TunedHouses$Term") q1555 q1554 q1556 q1593 q1558 q121 q1559 (by decide +kernel) (so_le rfl)), hS, by omega⟩
  · obtain ⟨d', hd, hS⟩ := h2 (by rw [e]; decide)
    exact ⟨by omega, by omega, d', _, _, (by rw [e]; exact jk_A (C := RX20) (owner := "TunedHouses$Term") q1555 q1554 q1556 q1597 q1558 q121 q1559 (by decide +kernel) (so_le rfl)), hS, by omega⟩
  · obtain ⟨d', hd, hS⟩ := h2 (by rw [e]; decide)
    exact ⟨by omega, by omega, d', _, _, (by rw [e]; exact jk_A (C := RX5) (owner := "TunedHouses$Term") q1555 q1554 q1556 q1594 q1558 q121 q1559 (by decide +kernel) (so_le rfl)), hS, by omega⟩
  · obtain ⟨d', hd, hS⟩ := h3 (by rw [e]; decide)
    exact ⟨by omega, by omega, d', _, _, (by rw [e]; exact jk_A (C := RX6) (owner := "TunedHouses$Term") q1555 q1554 q1556 q1591 q1561 q123 q1562 (by decide +kernel) (so_le rfl)), hS, by omega⟩
theorem vs_of_X4_16 {d : Nat} {a0 a1 : Nat} {S : so_St} {res : Int32} (h : VP_of d a0 a1 S res) : jx_VS RX4 (.invokevirtual 16) 2 (d + 1) a0 [.ref a1] S (.inl (some (.int res))) S := by
  obtain ⟨h0, h1, h2, h3⟩ := h
  have h00 := h0
  simp only [List.mem_cons, List.not_mem_nil, or_false] at h00
  rcases h00 with e | e | e | e | e | e | e | e | e
  · obtain ⟨d', hd, hS⟩ := h1 (by rw [e]; decide)
    exact ⟨by omega, by omega, d', _, _, (by rw [e]; exact jk_A (C := RX14) (owner := "TunedHouses$Term") q1555 q1560 q1556 q1596 q1563 q131 q1564 (by decide +kernel) (so_le rfl)), hS, by omega⟩
  · obtain ⟨d', hd, hS⟩ := h2 (by rw [e]; decide)
    exact ⟨by omega, by omega, d', _, _, (by rw [e]; exact jk_A (C := RX15) (owner := "TunedHouses$Term") q1555 q1560 q1556 q1592 q1558 q121 q1559 (by decide +kernel) (so_le rfl)), hS, by omega⟩
  · obtain ⟨d', hd, hS⟩ := h2 (by rw [e]; decide)
    exact ⟨by omega, by omega, d', _, _, (by rw [e]; exact jk_A (C := RX16) (owner := "TunedHouses$Term") q1555 q1560 q1556 q1595 q1558 q121 q1559 (by decide +kernel) (so_le rfl)), hS, by omega⟩
  · obtain ⟨d', hd, hS⟩ := h2 (by rw [e]; decide)
    exact ⟨by omega, by omega, d', _, _, (by rw [e]; exact jk_A (C := RX17) (owner := "TunedHouses$Term") q1555 q1560 q1556 q1598 q1558 q121 q1559 (by decide +kernel) (so_le rfl)), hS, by omega⟩
  · obtain ⟨d', hd, hS⟩ := h2 (by rw [e]; decide)
    exact ⟨by omega, by omega, d', _, _, (by rw [e]; exact jk_A (C := RX18) (owner := "TunedHouses$Term") q1555 q1560 q1556 q1557 q1558 q121 q1559 (by decide +kernel) (so_le rfl)), hS, by omega⟩
  · obtain ⟨d', hd, hS⟩ := h2 (by rw [e]; decide)
    exact ⟨by omega, by omega, d', _, _, (by rw [e]; exact jk_A (C := RX19) (owner := "TunedHouses$Term") q1555 q1560 q1556 q1593 q1558 q121 q1559 (by decide +kernel) (so_le rfl)), hS, by omega⟩
  · obtain ⟨d', hd, hS⟩ := h2 (by rw [e]; decide)
    exact ⟨by omega, by omega, d', _, _, (by rw [e]; exact jk_A (C := RX20) (owner := "TunedHouses$Term") q1555 q1560 q1556 q1597 q1558 q121 q1559 (by decide +kernel) (so_le rfl)), hS, by omega⟩
  · obtain ⟨d', hd, hS⟩ := h2 (by rw [e]; decide)
    exact ⟨by omega, by omega, d', _, _, (by rw [e]; exact jk_A (C := RX5) (owner := "TunedHouses$Term") q1555 q1560 q1556 q1594 q1558 q121 q1559 (by decide +kernel) (so_le rfl)), hS, by omega⟩
  · obtain ⟨d', hd, hS⟩ := h3 (by rw [e]; decide)
    exact ⟨by omega, by omega, d', _, _, (by rw [e]; exact jk_A (C := RX6) (owner := "TunedHouses$Term") q1555 q1560 q1556 q1591 q1561 q123 q1562 (by decide +kernel) (so_le rfl)), hS, by omega⟩


/- VP:with -/
def VP_with (d : Nat) (a0 : Nat) (a1 a2 : Int32) (S : so_St) (res : Int32) : Prop := a0 % 64 ∈ [7, 8, 9, 10, 11, 12, 20] ∧ (a0 % 64 ∈ [7] → ∃ d', d' ≤ d ∧ jx_Sp d' yX15_with (ws_ yX15_with cX15_with 3 (Option.some Jvm.ClassFile.FieldType.int)) [.ref a0, .int a1, .int a2] S (.inl (some (.int res))) S) ∧ (a0 % 64 ∈ [8] → ∃ d', d' ≤ d ∧ jx_Sp d' yX16_with (ws_ yX16_with cX16_with 3 (Option.some Jvm.ClassFile.FieldType.int)) [.ref a0, .int a1, .int a2] S (.inl (some (.int res))) S) ∧ (a0 % 64 ∈ [9] → ∃ d', d' ≤ d ∧ jx_Sp d' yX17_with (ws_ yX17_with cX17_with 3 (Option.some Jvm.ClassFile.FieldType.int)) [.ref a0, .int a1, .int a2] S (.inl (some (.int res))) S) ∧ (a0 % 64 ∈ [10] → ∃ d', d' ≤ d ∧ jx_Sp d' yX18_with (ws_ yX18_with cX18_with 3 (Option.some Jvm.ClassFile.FieldType.int)) [.ref a0, .int a1, .int a2] S (.inl (some (.int res))) S) ∧ (a0 % 64 ∈ [11] → ∃ d', d' ≤ d ∧ jx_Sp d' yX19_with (ws_ yX19_with cX19_with 3 (Option.some Jvm.ClassFile.FieldType.int)) [.ref a0, .int a1, .int a2] S (.inl (some (.int res))) S) ∧ (a0 % 64 ∈ [12] → ∃ d', d' ≤ d ∧ jx_Sp d' yX20_with (ws_ yX20_with cX20_with 3 (Option.some Jvm.ClassFile.FieldType.int)) [.ref a0, .int a1, .int a2] S (.inl (some (.int res))) S) ∧ (a0 % 64 ∈ [20] → ∃ d', d' ≤ d ∧ jx_Sp d' yX5_with (ws_ yX5_with cX5_with 3 (Option.some Jvm.ClassFile.FieldType.int)) [.ref a0, .int a1, .int a2] S (.inl (some (.int res))) S)

/- X15_with -/
abbrev kX15_with : jx_K := (cX15_with, 3, RX15, 1, (Option.some Jvm.ClassFile.FieldType.int), "with", [])
def fX15_with (a0 : Nat) (a1 : Int32) (a2 : Int32) : Int32 :=
  (fJ12_min a1 a2)
set_option maxHeartbeats 4000000 in
set_option maxRecDepth 100000 in
theorem wX15_with {res : Int32}  (a0 : Nat) (a1 : Int32) (a2 : Int32)  (S : so_St) (k_a0 : a0 % 64 ∈ [7]) (hf : fX15_with a0 a1 a2 = res) : jx_Sp 1 yX15_with (ws_ yX15_with cX15_with 3 (Option.some Jvm.ClassFile.FieldType.int)) [.ref a0, .int a1, .int a2] S (.inl (some (.int res))) S := by
  refine jx_of (plainFor_of_name (by decide)) (so_le rfl) ?_
  show jg_ (S, S, .inl (some (.int res))) kX15_with 0 [(0, .ref a0), (1, .int a1), (2, .int a2)] [] S
  unfold fX15_with at hf
  refine jr_iload_n dX15_with_0 rfl rfl ?_
  refine jr_iload_n dX15_with_1 rfl rfl ?_
  refine jr_call (st := []) lk_X15_7 (wJ12_min a1 a2 S rfl) jk_r0 rfl rfl (so_le rfl) (so_le rfl) dX15_with_2 ?_
  obtain rfl := hf
  exact jr_iret rfl rfl dX15_with_5

/- X16_with -/
abbrev kX16_with : jx_K := (cX16_with, 3, RX16, 1, (Option.some Jvm.ClassFile.FieldType.int), "with", [])
def fX16_with (a0 : Nat) (a1 : Int32) (a2 : Int32) : Int32 :=
  (fJ12_max a1 a2)
set_option maxHeartbeats 4000000 in
set_option maxRecDepth 100000 in
theorem wX16_with {res : Int32}  (a0 : Nat) (a1 : Int32) (a2 : Int32)  (S : so_St) (k_a0 : a0 % 64 ∈ [8]) (hf : fX16_with a0 a1 a2 = res) : jx_Sp 1 yX16_with (ws_ yX16_with cX16_with 3 (Option.some Jvm.ClassFile.FieldType.int)) [.ref a0, .int a1, .int a2] S (.inl (some (.int res))) S := by
  refine jx_of (plainFor_of_name (by decide)) (so_le rfl) ?_
  show jg_ (S, S, .inl (some (.int res))) kX16_with 0 [(0, .ref a0), (1, .int a1), (2, .int a2)] [] S
  unfold fX16_with at hf
  refine jr_iload_n dX16_with_0 rfl rfl ?_
  refine jr_iload_n dX16_with_1 rfl rfl ?_
  refine jr_call (st := []) lk_X16_7 (wJ12_max a1 a2 S rfl) jk_r0 rfl rfl (so_le rfl) (so_le rfl) dX16_with_2 ?_
  obtain rfl := hf
  exact jr_iret rfl rfl dX16_with_5

/- X17_with -/
abbrev kX17_with : jx_K := (cX17_with, 3, RX17, 0, (Option.some Jvm.ClassFile.FieldType.int), "with", [])
def fX17_with (a0 : Nat) (a1 : Int32) (a2 : Int32) : Int32 :=
  (a1 * a2)
set_option maxHeartbeats 4000000 in
set_option maxRecDepth 100000 in
theorem wX17_with {res : Int32}  (a0 : Nat) (a1 : Int32) (a2 : Int32)  (S : so_St) (k_a0 : a0 % 64 ∈ [9]) (hf : fX17_with a0 a1 a2 = res) : jx_Sp 0 yX17_with (ws_ yX17_with cX17_with 3 (Option.some Jvm.ClassFile.FieldType.int)) [.ref a0, .int a1, .int a2] S (.inl (some (.int res))) S := by
  refine jx_of (plainFor_of_name (by decide)) (so_le rfl) ?_
  show jg_ (S, S, .inl (some (.int res))) kX17_with 0 [(0, .ref a0), (1, .int a1), (2, .int a2)] [] S
  unfold fX17_with at hf
  refine jr_iload_n dX17_with_0 rfl rfl ?_
  refine jr_iload_n dX17_with_1 rfl rfl ?_
  refine jr_imul dX17_with_2 ?_
  obtain rfl := hf
  exact jr_iret rfl rfl dX17_with_3

/- X18_with -/
abbrev kX18_with : jx_K := (cX18_with, 3, RX18, 0, (Option.some Jvm.ClassFile.FieldType.int), "with", [])
def fX18_with (a0 : Nat) (a1 : Int32) (a2 : Int32) (S : so_St) : Option Int32 :=
  if a2 = (0 : Int32) then
  (some (0 : Int32))
  else
  (so_gd (so_ne0 a2) fun _ =>
  some (a1 / a2))
set_option maxHeartbeats 4000000 in
set_option maxRecDepth 100000 in
theorem wX18_with {res : Int32}  (a0 : Nat) (a1 : Int32) (a2 : Int32)  (S : so_St) (k_a0 : a0 % 64 ∈ [10]) (hf : fX18_with a0 a1 a2 S = some res) : jx_Sp 0 yX18_with (ws_ yX18_with cX18_with 3 (Option.some Jvm.ClassFile.FieldType.int)) [.ref a0, .int a1, .int a2] S (.inl (some (.int res))) S := by
  refine jx_of (plainFor_of_name (by decide)) (so_le rfl) ?_
  show jg_ (S, S, .inl (some (.int res))) kX18_with 0 [(0, .ref a0), (1, .int a1), (2, .int a2)] [] S
  unfold fX18_with at hf
  refine jr_iload_n dX18_with_0 rfl rfl ?_
  refine jr_if_ne (tgt := 8) dX18_with_1 rfl (fun c1 => ?_) (fun c1 => ?_)
  · have hf := so_f c1 hf
    refine jr_iload_n dX18_with_8 rfl rfl ?_
    refine jr_iload_n dX18_with_9 rfl rfl ?_
    obtain ⟨g2, hf⟩ := so_gdE hf
    refine jr_idiv dX18_with_10 (so_ne0E g2) ?_
    obtain rfl := so_e1 hf
    exact jr_iret rfl rfl dX18_with_11
  · have hf := so_t c1 hf
    refine jr_iconst dX18_with_4 ic_0 ?_
    refine jr_goto (tgt := 11) dX18_with_5 rfl ?_
    obtain rfl := so_e1 hf
    exact jr_iret rfl rfl dX18_with_11

/- X19_with -/
abbrev kX19_with : jx_K := (cX19_with, 3, RX19, 0, (Option.some Jvm.ClassFile.FieldType.int), "with", [])
def fX19_with (a0 : Nat) (a1 : Int32) (a2 : Int32) (S : so_St) : Option Int32 :=
  if a2 = (0 : Int32) then
  (some (0 : Int32))
  else
  (so_gd (so_ne0 a2) fun _ =>
  some (a1 - a1 / a2 * a2))
set_option maxHeartbeats 4000000 in
set_option maxRecDepth 100000 in
theorem wX19_with {res : Int32}  (a0 : Nat) (a1 : Int32) (a2 : Int32)  (S : so_St) (k_a0 : a0 % 64 ∈ [11]) (hf : fX19_with a0 a1 a2 S = some res) : jx_Sp 0 yX19_with (ws_ yX19_with cX19_with 3 (Option.some Jvm.ClassFile.FieldType.int)) [.ref a0, .int a1, .int a2] S (.inl (some (.int res))) S := by
  refine jx_of (plainFor_of_name (by decide)) (so_le rfl) ?_
  show jg_ (S, S, .inl (some (.int res))) kX19_with 0 [(0, .ref a0), (1, .int a1), (2, .int a2)] [] S
  unfold fX19_with at hf
  refine jr_iload_n dX19_with_0 rfl rfl ?_
  refine jr_if_ne (tgt := 8) dX19_with_1 rfl (fun c1 => ?_) (fun c1 => ?_)
  · have hf := so_f c1 hf
    refine jr_iload_n dX19_with_8 rfl rfl ?_
    refine jr_iload_n dX19_with_9 rfl rfl ?_
    obtain ⟨g2, hf⟩ := so_gdE hf
    refine jr_irem dX19_with_10 (so_ne0E g2) ?_
    obtain rfl := so_e1 hf
    exact jr_iret rfl rfl dX19_with_11
  · have hf := so_t c1 hf
    refine jr_iconst dX19_with_4 ic_0 ?_
    refine jr_goto (tgt := 11) dX19_with_5 rfl ?_
    obtain rfl := so_e1 hf
    exact jr_iret rfl rfl dX19_with_11

/- X20_with -/
abbrev kX20_with : jx_K := (cX20_with, 3, RX20, 0, (Option.some Jvm.ClassFile.FieldType.int), "with", [])
def fX20_with (a0 : Nat) (a1 : Int32) (a2 : Int32) : Int32 :=
  (a1 + a2)
set_option maxHeartbeats 4000000 in
set_option maxRecDepth 100000 in
theorem wX20_with {res : Int32}  (a0 : Nat) (a1 : Int32) (a2 : Int32)  (S : so_St) (k_a0 : a0 % 64 ∈ [12]) (hf : fX20_with a0 a1 a2 = res) : jx_Sp 0 yX20_with (ws_ yX20_with cX20_with 3 (Option.some Jvm.ClassFile.FieldType.int)) [.ref a0, .int a1, .int a2] S (.inl (some (.int res))) S := by
  refine jx_of (plainFor_of_name (by decide)) (so_le rfl) ?_
  show jg_ (S, S, .inl (some (.int res))) kX20_with 0 [(0, .ref a0), (1, .int a1), (2, .int a2)] [] S
  unfold fX20_with at hf
  refine jr_iload_n dX20_with_0 rfl rfl ?_
  refine jr_iload_n dX20_with_1 rfl rfl ?_
  refine jr_iadd dX20_with_2 ?_
  obtain rfl := hf
  exact jr_iret rfl rfl dX20_with_3

/- X5_with -/
abbrev kX5_with : jx_K := (cX5_with, 3, RX5, 0, (Option.some Jvm.ClassFile.FieldType.int), "with", [])
def fX5_with (a0 : Nat) (a1 : Int32) (a2 : Int32) : Int32 :=
  (a1 - a2)
set_option maxHeartbeats 4000000 in
set_option maxRecDepth 100000 in
theorem wX5_with {res : Int32}  (a0 : Nat) (a1 : Int32) (a2 : Int32)  (S : so_St) (k_a0 : a0 % 64 ∈ [20]) (hf : fX5_with a0 a1 a2 = res) : jx_Sp 0 yX5_with (ws_ yX5_with cX5_with 3 (Option.some Jvm.ClassFile.FieldType.int)) [.ref a0, .int a1, .int a2] S (.inl (some (.int res))) S := by
  refine jx_of (plainFor_of_name (by decide)) (so_le rfl) ?_
  show jg_ (S, S, .inl (some (.int res))) kX5_with 0 [(0, .ref a0), (1, .int a1), (2, .int a2)] [] S
  unfold fX5_with at hf
  refine jr_iload_n dX5_with_0 rfl rfl ?_
  refine jr_iload_n dX5_with_1 rfl rfl ?_
  refine jr_isub dX5_with_2 ?_
  obtain rfl := hf
  exact jr_iret rfl rfl dX5_with_3

/- V:with -/
def fV_with (a0 : Nat) (a1 a2 : Int32) (S : so_St) : Option Int32 :=
  if a0 % 64 ∈ [7] then some (fX15_with a0 a1 a2) else
  if a0 % 64 ∈ [8] then some (fX16_with a0 a1 a2) else
  if a0 % 64 ∈ [9] then some (fX17_with a0 a1 a2) else
  if a0 % 64 ∈ [10] then fX18_with a0 a1 a2 S else
  if a0 % 64 ∈ [11] then fX19_with a0 a1 a2 S else
  if a0 % 64 ∈ [12] then some (fX20_with a0 a1 a2) else
  if a0 % 64 ∈ [20] then some (fX5_with a0 a1 a2) else
  none
theorem wV_with (a0 : Nat) (a1 a2 : Int32) (S : so_St) (h0 : a0 % 64 ∈ [7, 8, 9, 10, 11, 12, 20]) {res : Int32} (hf : fV_with a0 a1 a2 S = some res) : VP_with 1 a0 a1 a2 S res := by
  unfold fV_with at hf
  refine ⟨h0, fun hm => ?_, fun hm => ?_, fun hm => ?_, fun hm => ?_, fun hm => ?_, fun hm => ?_, fun hm => ?_⟩
  · have hf := so_t hm hf
    have hf := so_e1 hf
    exact ⟨_, (so_le rfl), wX15_with a0 a1 a2 S hm hf⟩
  · have hf := so_f (fun c => so_dj hm c rfl) hf
    have hf := so_t hm hf
    have hf := so_e1 hf
    exact ⟨_, (so_le rfl), wX16_with a0 a1 a2 S hm hf⟩
  · have hf := so_f (fun c => so_dj hm c rfl) hf
    have hf := so_f (fun c => so_dj hm c rfl) hf
    have hf := so_t hm hf
    have hf := so_e1 hf
    exact ⟨_, (so_le rfl), wX17_with a0 a1 a2 S hm hf⟩
  · have hf := so_f (fun c => so_dj hm c rfl) hf
    have hf := so_f (fun c => so_dj hm c rfl) hf
    have hf := so_f (fun c => so_dj hm c rfl) hf
    have hf := so_t hm hf
    exact ⟨_, (so_le rfl), wX18_with a0 a1 a2 S hm hf⟩
  · have hf := so_f (fun c => so_dj hm c rfl) hf
    have hf := so_f (fun c => so_dj hm c rfl) hf
    have hf := so_f (fun c => so_dj hm c rfl) hf
    have hf := so_f (fun c => so_dj hm c rfl) hf
    have hf := so_t hm hf
    exact ⟨_, (so_le rfl), wX19_with a0 a1 a2 S hm hf⟩
  · have hf := so_f (fun c => so_dj hm c rfl) hf
    have hf := so_f (fun c => so_dj hm c rfl) hf
    have hf := so_f (fun c => so_dj hm c rfl) hf
    have hf := so_f (fun c => so_dj hm c rfl) hf
    have hf := so_f (fun c => so_dj hm c rfl) hf
    have hf := so_t hm hf
    have hf := so_e1 hf
    exact ⟨_, (so_le rfl), wX20_with a0 a1 a2 S hm hf⟩
  · have hf := so_f (fun c => so_dj hm c rfl) hf
    have hf := so_f (fun c => so_dj hm c rfl) hf
    have hf := so_f (fun c => so_dj hm c rfl) hf
    have hf := so_f (fun c => so_dj hm c rfl) hf
    have hf := so_f (fun c => so_dj hm c rfl) hf
    have hf := so_f (fun c => so_dj hm c rfl) hf
    have hf := so_t hm hf
    have hf := so_e1 hf
    exact ⟨_, (so_le rfl), wX5_with a0 a1 a2 S hm hf⟩
theorem vs_with_X4_20 {d : Nat} {a0 : Nat} {a1 a2 : Int32} {S : so_St} {res : Int32} (h : VP_with d a0 a1 a2 S res) : jx_VS RX4 (.invokevirtual 20) 3 (d + 1) a0 [.int a1, .int a2] S (.inl (some (.int res))) S := by
  obtain ⟨h0, h1, h2, h3, h4, h5, h6, h7⟩ := h
  have h00 := h0
  simp only [List.mem_cons, List.not_mem_nil, or_false] at h00
  rcases h00 with e | e | e | e | e | e | e
  · obtain ⟨d', hd, hS⟩ := h1 (by rw [e]; decide)
    exact ⟨by omega, by omega, d', _, _, (by rw [e]; exact jk_A (C := RX15) (owner := "TunedHouses$Two") q1566 q1565 q1567 q1571 q1572 q132 q1573 (by decide +kernel) (so_le rfl)), hS, by omega⟩
  · obtain ⟨d', hd, hS⟩ := h2 (by rw [e]; decide)
    exact ⟨by omega, by omega, d', _, _, (by rw [e]; exact jk_A (C := RX16) (owner := "TunedHouses$Two") q1566 q1565 q1567 q1581 q1582 q133 q1583 (by decide +kernel) (so_le rfl)), hS, by omega⟩
  · obtain ⟨d', hd, hS⟩ := h3 (by rw [e]; decide)
    exact ⟨by omega, by omega, d', _, _, (by rw [e]; exact jk_A (C := RX17) (owner := "TunedHouses$Two") q1566 q1565 q1567 q1588 q1589 q134 q1590 (by decide +kernel) (so_le rfl)), hS, by omega⟩
  · obtain ⟨d', hd, hS⟩ := h4 (by rw [e]; decide)
    exact ⟨by omega, by omega, d', _, _, (by rw [e]; exact jk_A (C := RX18) (owner := "TunedHouses$Two") q1566 q1565 q1567 q1568 q1569 q135 q1570 (by decide +kernel) (so_le rfl)), hS, by omega⟩
  · obtain ⟨d', hd, hS⟩ := h5 (by rw [e]; decide)
    exact ⟨by omega, by omega, d', _, _, (by rw [e]; exact jk_A (C := RX19) (owner := "TunedHouses$Two") q1566 q1565 q1567 q1575 q1576 q136 q1577 (by decide +kernel) (so_le rfl)), hS, by omega⟩
  · obtain ⟨d', hd, hS⟩ := h6 (by rw [e]; decide)
    exact ⟨by omega, by omega, d', _, _, (by rw [e]; exact jk_A (C := RX20) (owner := "TunedHouses$Two") q1566 q1565 q1567 q1585 q1586 q137 q1587 (by decide +kernel) (so_le rfl)), hS, by omega⟩
  · obtain ⟨d', hd, hS⟩ := h7 (by rw [e]; decide)
    exact ⟨by omega, by omega, d', _, _, (by rw [e]; exact jk_A (C := RX5) (owner := "TunedHouses$Two") q1566 q1565 q1567 q1578 q1579 q122 q1580 (by decide +kernel) (so_le rfl)), hS, by omega⟩


/- X4_of -/
abbrev kX4_of (d0 : Nat) : jx_K := (cX4_of, 2, RX4, d0 + 2, (Option.some Jvm.ClassFile.FieldType.int), "of", [])
def fX4_of (rec : Nat → Nat → so_St → Option Int32) (a0 : Nat) (a1 : Nat) (S : so_St) : Option Int32 :=
  (so_rk (so_R S a0 0) [6, 7, 8, 9, 10, 11, 12, 20, 21]).bind fun p1 =>
  (rec p1 a1 S).bind fun r4 =>
  (so_rk (so_R S a0 1) [6, 7, 8, 9, 10, 11, 12, 20, 21]).bind fun p5 =>
  (rec p5 a1 S).bind fun r8 =>
  (fV_with a0 r4 r8 S).bind fun r10 =>
  some r10
set_option maxHeartbeats 4000000 in
set_option maxRecDepth 100000 in
theorem wX4_of {d0 : Nat} {res : Int32} {rec : Nat → Nat → so_St → Option Int32} (hrec : ∀ (a0 a1 : Nat) (S : so_St), a0 % 64 ∈ [6, 7, 8, 9, 10, 11, 12, 20, 21] → a1 % 64 ∈ [50] → ∀ {res : Int32}, rec a0 a1 S = some res → VP_of d0 a0 a1 S res) (a0 : Nat) (a1 : Nat)  (S : so_St) (k_a0 : a0 % 64 ∈ [7, 8, 9, 10, 11, 12, 20]) (k_a1 : a1 % 64 ∈ [50]) (hf : fX4_of rec a0 a1 S = some res) : jx_Sp (d0 + 2) yX4_of (ws_ yX4_of cX4_of 2 (Option.some Jvm.ClassFile.FieldType.int)) [.ref a0, .ref a1] S (.inl (some (.int res))) S := by
  refine jx_of (plainFor_of_name (by decide)) (so_le rfl) ?_
  show jg_ (S, S, .inl (some (.int res))) (kX4_of d0) 0 [(0, .ref a0), (1, .ref a1)] [] S
  unfold fX4_of at hf
  refine jr_aload_n dX4_of_0 rfl rfl jv_rr ?_
  refine jr_aload_n dX4_of_1 rfl rfl jv_rr ?_
  refine jr_getR fl_X4_7_7_8_9_10_11_12_20 k_a0 (so_n26 rfl) dX4_of_2 ?_
  obtain ⟨p1, h2, hf⟩ := so_b hf
  obtain ⟨h2, k_p1⟩ := so_rk_s h2
  refine jr_rf h2 ?_
  refine jr_aload_n dX4_of_5 rfl rfl jv_rr ?_
  obtain ⟨r4, h3, hf⟩ := so_b hf
  refine jr_callD (st := [.ref a0]) (vs_of_X4_16 (hrec p1 a1 S k_p1 k_a1 h3)) (show d0 + 1 ≤ d0 + 2 by omega) rfl rfl (so_le rfl) dX4_of_6 ?_
  refine jr_aload_n dX4_of_9 rfl rfl jv_rr ?_
  refine jr_getR fl_X4_13_7_8_9_10_11_12_20 k_a0 (so_n26 rfl) dX4_of_10 ?_
  obtain ⟨p5, h6, hf⟩ := so_b hf
  obtain ⟨h6, k_p5⟩ := so_rk_s h6
  refine jr_rf h6 ?_
  refine jr_aload_n dX4_of_13 rfl rfl jv_rr ?_
  obtain ⟨r8, h7, hf⟩ := so_b hf
  refine jr_callD (st := [.int r4, .ref a0]) (vs_of_X4_16 (hrec p5 a1 S k_p5 k_a1 h7)) (show d0 + 1 ≤ d0 + 2 by omega) rfl rfl (so_le rfl) dX4_of_14 ?_
  obtain ⟨r10, h9, hf⟩ := so_b hf
  refine jr_callD (st := []) (vs_with_X4_20 (wV_with a0 r4 r8 S k_a0 h9)) (show 2 ≤ d0 + 2 by omega) rfl rfl (so_le rfl) dX4_of_17 ?_
  obtain rfl := so_e1 hf
  exact jr_iret rfl rfl dX4_of_20

/- X6_of -/
abbrev kX6_of : jx_K := (cX6_of, 2, RX6, 0, (Option.some Jvm.ClassFile.FieldType.int), "of", [])
def fX6_of (a0 : Nat) (a1 : Nat) (S : so_St) : Option Int32 :=
  so_gd (so_in (so_I S a0 0) (so_l S a1)) fun _ =>
  some (so_I S a1 (so_I S a0 0).toNatClampNeg)
set_option maxHeartbeats 4000000 in
set_option maxRecDepth 100000 in
theorem wX6_of {res : Int32}  (a0 : Nat) (a1 : Nat)  (S : so_St) (k_a0 : a0 % 64 ∈ [21]) (k_a1 : a1 % 64 ∈ [50]) (hf : fX6_of a0 a1 S = some res) : jx_Sp 0 yX6_of (ws_ yX6_of cX6_of 2 (Option.some Jvm.ClassFile.FieldType.int)) [.ref a0, .ref a1] S (.inl (some (.int res))) S := by
  refine jx_of (plainFor_of_name (by decide)) (so_le rfl) ?_
  show jg_ (S, S, .inl (some (.int res))) kX6_of 0 [(0, .ref a0), (1, .ref a1)] [] S
  unfold fX6_of at hf
  refine jr_aload_n dX6_of_0 rfl rfl jv_rr ?_
  refine jr_aload_n dX6_of_1 rfl rfl jv_rr ?_
  refine jr_getI fl_X6_7_21 k_a0 (so_n26 rfl) dX6_of_2 ?_
  obtain ⟨g1, hf⟩ := so_gdE hf
  refine jr_iaload (so_m1 k_a1) (so_inE g1) dX6_of_5 ?_
  obtain rfl := so_e1 hf
  exact jr_iret rfl rfl dX6_of_6

/- V:of -/
def fcV_of : Nat → Nat → Nat → so_St → Option Int32
  | 0 => fun _ _ _ => none
  | n + 1 => fun a0 a1 S =>
  if a0 % 64 ∈ [6] then fX14_of a0 a1 S else
  if a0 % 64 ∈ [7, 8, 9, 10, 11, 12, 20] then fX4_of (fcV_of n) a0 a1 S else
  if a0 % 64 ∈ [21] then fX6_of a0 a1 S else
  none
theorem wcV_of : ∀ (n : Nat) (a0 a1 : Nat) (S : so_St), a0 % 64 ∈ [6, 7, 8, 9, 10, 11, 12, 20, 21] → a1 % 64 ∈ [50] → ∀ {res : Int32}, fcV_of n a0 a1 S = some res → VP_of (3 * n) a0 a1 S res := by
  intro n
  induction n with
  | zero =>
    intro a0 a1 S h0 h1 res hf
    exact so_no hf
  | succ n ih =>
    intro a0 a1 S h0 h1 res hf
    rw [fcV_of] at hf
    refine ⟨h0, fun hm => ?_, fun hm => ?_, fun hm => ?_⟩
    · have hf := so_t hm hf
      exact ⟨_, (show 0 ≤ 3 * (n + 1) by omega), wX14_of a0 a1 S hm h1 hf⟩
    · have hf := so_f (fun c => so_dj hm c rfl) hf
      have hf := so_t hm hf
      exact ⟨_, (show 3 * n + 2 ≤ 3 * (n + 1) by omega), wX4_of ih a0 a1 S hm h1 hf⟩
    · have hf := so_f (fun c => so_dj hm c rfl) hf
      have hf := so_f (fun c => so_dj hm c rfl) hf
      have hf := so_t hm hf
      exact ⟨_, (show 0 ≤ 3 * (n + 1) by omega), wX6_of a0 a1 S hm h1 hf⟩


/- X1_forceBy -/
abbrev kX1_forceBy : jx_K := (cX1_forceBy, 9, RX1, 1201, (Option.some Jvm.ClassFile.FieldType.int), "forceBy", [])
def fX1_forceBy (a0 : Nat) (a1 : Int32) (a2 : Int32) (a3 : Int32) (a4 : Int32) (a5 : Int32) (a6 : Int32) (a7 : Int32) (a8 : Int32) (S : so_St) : Option (Int32 × so_St) :=
  (so_rk (so_R S a0 2) [50]).bind fun p1 =>
  so_gd (so_in (0 : Int32) (so_l S p1)) fun _ =>
  so_let (so_sI S p1 (0 : Int32).toNatClampNeg a1) fun S4 =>
  (so_rk (so_R S4 a0 2) [50]).bind fun p5 =>
  so_gd (so_in (1 : Int32) (so_l S4 p5)) fun _ =>
  so_let (so_sI S4 p5 (1 : Int32).toNatClampNeg a2) fun S8 =>
  (so_rk (so_R S8 a0 2) [50]).bind fun p9 =>
  so_gd (so_in (2 : Int32) (so_l S8 p9)) fun _ =>
  so_let (so_sI S8 p9 (2 : Int32).toNatClampNeg a3) fun S12 =>
  (so_rk (so_R S12 a0 2) [50]).bind fun p13 =>
  so_gd (so_in (3 : Int32) (so_l S12 p13)) fun _ =>
  so_let (so_sI S12 p13 (3 : Int32).toNatClampNeg a4) fun S16 =>
  (so_rk (so_R S16 a0 2) [50]).bind fun p17 =>
  so_gd (so_in (4 : Int32) (so_l S16 p17)) fun _ =>
  so_let (so_sI S16 p17 (4 : Int32).toNatClampNeg a5) fun S20 =>
  (so_rk (so_R S20 a0 2) [50]).bind fun p21 =>
  so_gd (so_in (5 : Int32) (so_l S20 p21)) fun _ =>
  so_let (so_sI S20 p21 (5 : Int32).toNatClampNeg a6) fun S24 =>
  (so_rk (so_R S24 a0 2) [50]).bind fun p25 =>
  so_gd (so_in (6 : Int32) (so_l S24 p25)) fun _ =>
  so_let (so_sI S24 p25 (6 : Int32).toNatClampNeg a7) fun S28 =>
  (so_rk (so_R S28 a0 2) [50]).bind fun p29 =>
  so_gd (so_in (7 : Int32) (so_l S28 p29)) fun _ =>
  so_let (so_sI S28 p29 (7 : Int32).toNatClampNeg a8) fun S32 =>
  (so_rk (so_R S32 a0 1) [6, 7, 8, 9, 10, 11, 12, 20, 21]).bind fun p33 =>
  (so_rk (so_R S32 a0 2) [50]).bind fun p35 =>
  (fcV_of 400 p33 p35 S32).bind fun r38 =>
  some ((fJ12_max (0 : Int32) (fJ12_min (40 : Int32) r38)), S32)
set_option maxHeartbeats 4000000 in
set_option maxRecDepth 100000 in
theorem wX1_forceBy {res : Int32} {S' : so_St}  (a0 : Nat) (a1 : Int32) (a2 : Int32) (a3 : Int32) (a4 : Int32) (a5 : Int32) (a6 : Int32) (a7 : Int32) (a8 : Int32)  (S : so_St) (k_a0 : a0 % 64 ∈ [0]) (hf : fX1_forceBy a0 a1 a2 a3 a4 a5 a6 a7 a8 S = some (res, S')) : jx_Sp 1201 yX1_forceBy (ws_ yX1_forceBy cX1_forceBy 9 (Option.some Jvm.ClassFile.FieldType.int)) [.ref a0, .int a1, .int a2, .int a3, .int a4, .int a5, .int a6, .int a7, .int a8] S (.inl (some (.int res))) S' := by
  refine jx_of (plainFor_of_name (by decide)) (so_le rfl) ?_
  show jg_ (S, S', .inl (some (.int res))) kX1_forceBy 0 [(0, .ref a0), (1, .int a1), (2, .int a2), (3, .int a3), (4, .int a4), (5, .int a5), (6, .int a6), (7, .int a7), (8, .int a8)] [] S
  unfold fX1_forceBy at hf
  refine jr_aload_n dX1_forceBy_0 rfl rfl jv_rr ?_
  refine jr_getR fl_X1_34_0 k_a0 (so_n26 rfl) dX1_forceBy_1 ?_
  obtain ⟨p1, h2, hf⟩ := so_b hf
  obtain ⟨h2, k_p1⟩ := so_rk_s h2
  refine jr_rf h2 ?_
  refine jr_iconst dX1_forceBy_4 ic_0 ?_
  refine jr_iload_n dX1_forceBy_5 rfl rfl ?_
  obtain ⟨g3, hf⟩ := so_gdE hf
  refine jr_iastore (so_m1 k_p1) (so_inE g3) dX1_forceBy_6 ?_
  refine so_let_e hf (fun S4 hf => ?_)
  refine jr_aload_n dX1_forceBy_7 rfl rfl jv_rr ?_
  refine jr_getR fl_X1_34_0 k_a0 (so_n26 rfl) dX1_forceBy_8 ?_
  obtain ⟨p5, h6, hf⟩ := so_b hf
  obtain ⟨h6, k_p5⟩ := so_rk_s h6
  refine jr_rf h6 ?_
  refine jr_iconst dX1_forceBy_11 ic_1 ?_
  refine jr_iload_n dX1_forceBy_12 rfl rfl ?_
  obtain ⟨g7, hf⟩ := so_gdE hf
  refine jr_iastore (so_m1 k_p5) (so_inE g7) dX1_forceBy_13 ?_
  refine so_let_e hf (fun S8 hf => ?_)
  refine jr_aload_n dX1_forceBy_14 rfl rfl jv_rr ?_
  refine jr_getR fl_X1_34_0 k_a0 (so_n26 rfl) dX1_forceBy_15 ?_
  obtain ⟨p9, h10, hf⟩ := so_b hf
  obtain ⟨h10, k_p9⟩ := so_rk_s h10
  refine jr_rf h10 ?_
  refine jr_iconst dX1_forceBy_18 ic_2 ?_
  refine jr_iload_n dX1_forceBy_19 rfl rfl ?_
  obtain ⟨g11, hf⟩ := so_gdE hf
  refine jr_iastore (so_m1 k_p9) (so_inE g11) dX1_forceBy_20 ?_
  refine so_let_e hf (fun S12 hf => ?_)
  refine jr_aload_n dX1_forceBy_21 rfl rfl jv_rr ?_
  refine jr_getR fl_X1_34_0 k_a0 (so_n26 rfl) dX1_forceBy_22 ?_
  obtain ⟨p13, h14, hf⟩ := so_b hf
  obtain ⟨h14, k_p13⟩ := so_rk_s h14
  refine jr_rf h14 ?_
  refine jr_iconst dX1_forceBy_25 ic_3 ?_
  refine jr_iload dX1_forceBy_26 rfl ?_
  obtain ⟨g15, hf⟩ := so_gdE hf
  refine jr_iastore (so_m1 k_p13) (so_inE g15) dX1_forceBy_28 ?_
  refine so_let_e hf (fun S16 hf => ?_)
  refine jr_aload_n dX1_forceBy_29 rfl rfl jv_rr ?_
  refine jr_getR fl_X1_34_0 k_a0 (so_n26 rfl) dX1_forceBy_30 ?_
  obtain ⟨p17, h18, hf⟩ := so_b hf
  obtain ⟨h18, k_p17⟩ := so_rk_s h18
  refine jr_rf h18 ?_
  refine jr_iconst dX1_forceBy_33 ic_4 ?_
  refine jr_iload dX1_forceBy_34 rfl ?_
  obtain ⟨g19, hf⟩ := so_gdE hf
  refine jr_iastore (so_m1 k_p17) (so_inE g19) dX1_forceBy_36 ?_
  refine so_let_e hf (fun S20 hf => ?_)
  refine jr_aload_n dX1_forceBy_37 rfl rfl jv_rr ?_
  refine jr_getR fl_X1_34_0 k_a0 (so_n26 rfl) dX1_forceBy_38 ?_
  obtain ⟨p21, h22, hf⟩ := so_b hf
  obtain ⟨h22, k_p21⟩ := so_rk_s h22
  refine jr_rf h22 ?_
  refine jr_iconst dX1_forceBy_41 ic_5 ?_
  refine jr_iload dX1_forceBy_42 rfl ?_
  obtain ⟨g23, hf⟩ := so_gdE hf
  refine jr_iastore (so_m1 k_p21) (so_inE g23) dX1_forceBy_44 ?_
  refine so_let_e hf (fun S24 hf => ?_)
  refine jr_aload_n dX1_forceBy_45 rfl rfl jv_rr ?_
  refine jr_getR fl_X1_34_0 k_a0 (so_n26 rfl) dX1_forceBy_46 ?_
  obtain ⟨p25, h26, hf⟩ := so_b hf
  obtain ⟨h26, k_p25⟩ := so_rk_s h26
  refine jr_rf h26 ?_
  refine jr_bipush dX1_forceBy_49 bp_6 ?_
  refine jr_iload dX1_forceBy_51 rfl ?_
  obtain ⟨g27, hf⟩ := so_gdE hf
  refine jr_iastore (so_m1 k_p25) (so_inE g27) dX1_forceBy_53 ?_
  refine so_let_e hf (fun S28 hf => ?_)
  refine jr_aload_n dX1_forceBy_54 rfl rfl jv_rr ?_
  refine jr_getR fl_X1_34_0 k_a0 (so_n26 rfl) dX1_forceBy_55 ?_
  obtain ⟨p29, h30, hf⟩ := so_b hf
  obtain ⟨h30, k_p29⟩ := so_rk_s h30
  refine jr_rf h30 ?_
  refine jr_bipush dX1_forceBy_58 bp_7 ?_
  refine jr_iload dX1_forceBy_60 rfl ?_
  obtain ⟨g31, hf⟩ := so_gdE hf
  refine jr_iastore (so_m1 k_p29) (so_inE g31) dX1_forceBy_62 ?_
  refine so_let_e hf (fun S32 hf => ?_)
  refine jr_iconst dX1_forceBy_63 ic_0 ?_
  refine jr_bipush dX1_forceBy_64 bp_40 ?_
  refine jr_aload_n dX1_forceBy_66 rfl rfl jv_rr ?_
  refine jr_getR fl_X1_30_0 k_a0 (so_n26 rfl) dX1_forceBy_67 ?_
  obtain ⟨p33, h34, hf⟩ := so_b hf
  obtain ⟨h34, k_p33⟩ := so_rk_s h34
  refine jr_rf h34 ?_
  refine jr_aload_n dX1_forceBy_70 rfl rfl jv_rr ?_
  refine jr_getR fl_X1_34_0 k_a0 (so_n26 rfl) dX1_forceBy_71 ?_
  obtain ⟨p35, h36, hf⟩ := so_b hf
  obtain ⟨h36, k_p35⟩ := so_rk_s h36
  refine jr_rf h36 ?_
  obtain ⟨r38, h37, hf⟩ := so_b hf
  refine jr_callD (st := [.int (40 : Int32), .int (0 : Int32)]) (vs_of_X1_128 (wcV_of 400 p33 p35 S32 k_p33 k_p35 h37)) (so_le rfl) rfl rfl (so_le rfl) dX1_forceBy_74 ?_
  refine jr_call (st := [.int (0 : Int32)]) lk_X1_134 (wJ12_min (40 : Int32) r38 S32 rfl) jk_r0 rfl rfl (so_le rfl) (so_le rfl) dX1_forceBy_77 ?_
  refine jr_call (st := []) lk_X1_140 (wJ12_max (0 : Int32) (fJ12_min (40 : Int32) r38) S32 rfl) jk_r0 rfl rfl (so_le rfl) (so_le rfl) dX1_forceBy_80 ?_
  obtain ⟨rfl, rfl⟩ := so_e2 hf
  exact jr_iret rfl rfl dX1_forceBy_83

/- X7_forceWith -/
abbrev kX7_forceWith : jx_K := (cX7_forceWith, 5, RX7, 1202, (Option.some Jvm.ClassFile.FieldType.int), "forceWith", [])
def fX7_forceWith (a0 : Nat) (a1 : Int32) (a2 : Int32) (S : so_St) : Option (Int32 × so_St) :=
  (so_rk (so_R S a0 0) [50]).bind fun p1 =>
  so_gd (so_in a1 (so_l S p1)) fun _ =>
  if (so_I S p1 a1.toNatClampNeg) = (-1 : Int32) then
  (some ((0 : Int32), S))
  else
  ((so_rk (so_R S a0 10) [0]).bind fun p5 =>
  (fX1_pianoOf p5 a1 S).bind fun r8 =>
  so_gd (decide (r8 % 64 ∈ [4])) fun _ =>
  (so_rk (so_R S a0 10) [0]).bind fun p10 =>
  (so_rk (so_R S a0 2) [50]).bind fun p12 =>
  so_gd (so_in a1 (so_l S p12)) fun _ =>
  (so_rk (so_R S a0 3) [50]).bind fun p15 =>
  so_gd (so_in (((10 : Int32) * (so_I S p1 a1.toNatClampNeg)) + (so_I S r8 0)) (so_l S p15)) fun _ =>
  (fX7_next a0 (so_I S p1 a1.toNatClampNeg) S).bind fun r19 =>
  so_b2 (fX1_forceBy p10 (so_I S r8 1) a2 (so_I S p12 a1.toNatClampNeg) (so_I S p15 (((10 : Int32) * (so_I S p1 a1.toNatClampNeg)) + (so_I S r8 0)).toNatClampNeg) (so_I S r8 0) (fJ16_bitCount r19) (so_I S p1 a1.toNatClampNeg) (so_I S a0 6) S) fun r21 S22 =>
  some (r21, S22))
set_option maxHeartbeats 4000000 in
set_option maxRecDepth 100000 in
theorem wX7_forceWith {res : Int32} {S' : so_St}  (a0 : Nat) (a1 : Int32) (a2 : Int32)  (S : so_St) (k_a0 : a0 % 64 ∈ [22]) (hf : fX7_forceWith a0 a1 a2 S = some (res, S')) : jx_Sp 1202 yX7_forceWith (ws_ yX7_forceWith cX7_forceWith 5 (Option.some Jvm.ClassFile.FieldType.int)) [.ref a0, .int a1, .int a2] S (.inl (some (.int res))) S' := by
  refine jx_of (plainFor_of_name (by decide)) (so_le rfl) ?_
  show jg_ (S, S', .inl (some (.int res))) kX7_forceWith 0 [(0, .ref a0), (1, .int a1), (2, .int a2)] [] S
  unfold fX7_forceWith at hf
  refine jr_aload_n dX7_forceWith_0 rfl rfl jv_rr ?_
  refine jr_getR fl_X7_15_22 k_a0 (so_n26 rfl) dX7_forceWith_1 ?_
  obtain ⟨p1, h2, hf⟩ := so_b hf
  obtain ⟨h2, k_p1⟩ := so_rk_s h2
  refine jr_rf h2 ?_
  refine jr_iload_n dX7_forceWith_4 rfl rfl ?_
  obtain ⟨g3, hf⟩ := so_gdE hf
  refine jr_iaload (so_m1 k_p1) (so_inE g3) dX7_forceWith_5 ?_
  refine jr_istore_n (lv' := [(0, .ref a0), (1, .int a1), (2, .int a2), (3, .int (so_I S p1 a1.toNatClampNeg))]) dX7_forceWith_6 rfl (so_le rfl) rfl ?_
  refine jr_iload_n dX7_forceWith_7 rfl rfl ?_
  refine jr_iconst dX7_forceWith_8 ic_m1 ?_
  refine jr_icmp_ne (tgt := 14) dX7_forceWith_9 rfl (fun c4 => ?_) (fun c4 => ?_)
  · have hf := so_f c4 hf
    refine jr_aload_n dX7_forceWith_14 rfl rfl jv_rr ?_
    refine jr_getR fl_X7_3_22 k_a0 (so_n26 rfl) dX7_forceWith_15 ?_
    obtain ⟨p5, h6, hf⟩ := so_b hf
    obtain ⟨h6, k_p5⟩ := so_rk_s h6
    refine jr_rf h6 ?_
    refine jr_iload_n dX7_forceWith_18 rfl rfl ?_
    obtain ⟨r8, h7, hf⟩ := so_b hf
    obtain ⟨g9, hf⟩ := so_gdE hf
    refine jr_callM (st := []) lk_X7_73_0 (wX1_pianoOf p5 a1 S k_p5 h7) k_p5 rfl rfl rfl (so_le rfl) (so_le rfl) dX7_forceWith_19 ?_
    refine jr_astore (lv' := [(0, .ref a0), (1, .int a1), (2, .int a2), (3, .int (so_I S p1 a1.toNatClampNeg)), (4, .ref r8)]) dX7_forceWith_22 (so_le rfl) jv_rr rfl ?_
    refine jr_aload_n dX7_forceWith_24 rfl rfl jv_rr ?_
    refine jr_getR fl_X7_3_22 k_a0 (so_n26 rfl) dX7_forceWith_25 ?_
    obtain ⟨p10, h11, hf⟩ := so_b hf
    obtain ⟨h11, k_p10⟩ := so_rk_s h11
    refine jr_rf h11 ?_
    refine jr_aload dX7_forceWith_28 rfl jv_rr ?_
    refine jr_getI fl_X7_77_4 (of_decide_eq_true g9) (so_n26 rfl) dX7_forceWith_30 ?_
    refine jr_iload_n dX7_forceWith_33 rfl rfl ?_
    refine jr_aload_n dX7_forceWith_34 rfl rfl jv_rr ?_
    refine jr_getR fl_X7_22_22 k_a0 (so_n26 rfl) dX7_forceWith_35 ?_
    obtain ⟨p12, h13, hf⟩ := so_b hf
    obtain ⟨h13, k_p12⟩ := so_rk_s h13
    refine jr_rf h13 ?_
    refine jr_iload_n dX7_forceWith_38 rfl rfl ?_
    obtain ⟨g14, hf⟩ := so_gdE hf
    refine jr_iaload (so_m1 k_p12) (so_inE g14) dX7_forceWith_39 ?_
    refine jr_aload_n dX7_forceWith_40 rfl rfl jv_rr ?_
    refine jr_getR fl_X7_25_22 k_a0 (so_n26 rfl) dX7_forceWith_41 ?_
    obtain ⟨p15, h16, hf⟩ := so_b hf
    obtain ⟨h16, k_p15⟩ := so_rk_s h16
    refine jr_rf h16 ?_
    refine jr_bipush dX7_forceWith_44 bp_10 ?_
    refine jr_iload_n dX7_forceWith_46 rfl rfl ?_
    refine jr_imul dX7_forceWith_47 ?_
    refine jr_aload dX7_forceWith_48 rfl jv_rr ?_
    refine jr_getI fl_X7_82_4 (of_decide_eq_true g9) (so_n26 rfl) dX7_forceWith_50 ?_
    refine jr_iadd dX7_forceWith_53 ?_
    obtain ⟨g17, hf⟩ := so_gdE hf
    refine jr_iaload (so_m1 k_p15) (so_inE g17) dX7_forceWith_54 ?_
    refine jr_aload dX7_forceWith_55 rfl jv_rr ?_
    refine jr_getI fl_X7_82_4 (of_decide_eq_true g9) (so_n26 rfl) dX7_forceWith_57 ?_
    refine jr_aload_n dX7_forceWith_60 rfl rfl jv_rr ?_
    refine jr_iload_n dX7_forceWith_61 rfl rfl ?_
    obtain ⟨r19, h18, hf⟩ := so_b hf
    refine jr_callM (st := [.int (so_I S r8 0), .int (so_I S p15 (((10 : Int32) * (so_I S p1 a1.toNatClampNeg)) + (so_I S r8 0)).toNatClampNeg), .int (so_I S p12 a1.toNatClampNeg), .int a2, .int (so_I S r8 1), .ref p10]) lk_X7_84_22 (wX7_next a0 (so_I S p1 a1.toNatClampNeg) S k_a0 h18) k_a0 rfl rfl rfl (so_le rfl) (so_le rfl) dX7_forceWith_62 ?_
    refine jr_call (st := [.int (so_I S r8 0), .int (so_I S p15 (((10 : Int32) * (so_I S p1 a1.toNatClampNeg)) + (so_I S r8 0)).toNatClampNeg), .int (so_I S p12 a1.toNatClampNeg), .int a2, .int (so_I S r8 1), .ref p10]) lk_X7_88 (wJ16_bitCount r19 S rfl) jk_r0 rfl rfl (so_le rfl) (so_le rfl) dX7_forceWith_65 ?_
    refine jr_iload_n dX7_forceWith_68 rfl rfl ?_
    refine jr_aload_n dX7_forceWith_69 rfl rfl jv_rr ?_
    refine jr_getI fl_X7_49_22 k_a0 (so_n26 rfl) dX7_forceWith_70 ?_
    obtain ⟨r21, S22, h20, hf⟩ := so_b2E hf
    refine jr_callM (st := []) lk_X7_93_0 (wX1_forceBy p10 (so_I S r8 1) a2 (so_I S p12 a1.toNatClampNeg) (so_I S p15 (((10 : Int32) * (so_I S p1 a1.toNatClampNeg)) + (so_I S r8 0)).toNatClampNeg) (so_I S r8 0) (fJ16_bitCount r19) (so_I S p1 a1.toNatClampNeg) (so_I S a0 6) S k_p10 h20) k_p10 rfl rfl rfl (so_le rfl) (so_le rfl) dX7_forceWith_73 ?_
    obtain ⟨rfl, rfl⟩ := so_e2 hf
    exact jr_iret rfl rfl dX7_forceWith_76
  · have hf := so_t c4 hf
    refine jr_iconst dX7_forceWith_12 ic_0 ?_
    obtain ⟨rfl, rfl⟩ := so_e2 hf
    exact jr_iret rfl rfl dX7_forceWith_13

/- X7_force -/
abbrev kX7_force : jx_K := (cX7_force, 2, RX7, 1203, (Option.some Jvm.ClassFile.FieldType.int), "force", [])
def fX7_force (a0 : Nat) (a1 : Int32) (S : so_St) : Option (Int32 × so_St) :=
  (so_rk (so_R S a0 1) [50]).bind fun p1 =>
  so_gd (so_in a1 (so_l S p1)) fun _ =>
  so_b2 (fX7_forceWith a0 a1 (so_I S p1 a1.toNatClampNeg) S) fun r5 S6 =>
  some (r5, S6)
set_option maxHeartbeats 4000000 in
set_option maxRecDepth 100000 in
theorem wX7_force {res : Int32} {S' : so_St}  (a0 : Nat) (a1 : Int32)  (S : so_St) (k_a0 : a0 % 64 ∈ [22]) (hf : fX7_force a0 a1 S = some (res, S')) : jx_Sp 1203 yX7_force (ws_ yX7_force cX7_force 2 (Option.some Jvm.ClassFile.FieldType.int)) [.ref a0, .int a1] S (.inl (some (.int res))) S' := by
  refine jx_of (plainFor_of_name (by decide)) (so_le rfl) ?_
  show jg_ (S, S', .inl (some (.int res))) kX7_force 0 [(0, .ref a0), (1, .int a1)] [] S
  unfold fX7_force at hf
  refine jr_aload_n dX7_force_0 rfl rfl jv_rr ?_
  refine jr_iload_n dX7_force_1 rfl rfl ?_
  refine jr_aload_n dX7_force_2 rfl rfl jv_rr ?_
  refine jr_getR fl_X7_19_22 k_a0 (so_n26 rfl) dX7_force_3 ?_
  obtain ⟨p1, h2, hf⟩ := so_b hf
  obtain ⟨h2, k_p1⟩ := so_rk_s h2
  refine jr_rf h2 ?_
  refine jr_iload_n dX7_force_6 rfl rfl ?_
  obtain ⟨g3, hf⟩ := so_gdE hf
  refine jr_iaload (so_m1 k_p1) (so_inE g3) dX7_force_7 ?_
  obtain ⟨r5, S6, h4, hf⟩ := so_b2E hf
  refine jr_callM (st := []) lk_X7_69_22 (wX7_forceWith a0 a1 (so_I S p1 a1.toNatClampNeg) S k_a0 h4) k_a0 rfl rfl rfl (so_le rfl) (so_le rfl) dX7_force_8 ?_
  obtain ⟨rfl, rfl⟩ := so_e2 hf
  exact jr_iret rfl rfl dX7_force_11

/- X7_fightsAt -/
abbrev kX7_fightsAt : jx_K := (cX7_fightsAt, 5, RX7, 4, (Option.some Jvm.ClassFile.FieldType.int), "fightsAt", [])
def LX7_fightsAt_15 (f0 : Nat) (f1 : Int32) (S : so_St) : Nat → Int32 → Int32 → Option Int32
  | 0, _, _ => none
  | n + 1, v3, v4 =>
    (so_rk (so_R S f0 10) [0]).bind fun p5 =>
    (fX1_pianos p5 S).bind fun r8 =>
    if r8 ≤ v4 then
    (some v3)
    else
    ((so_rk (so_R S f0 10) [0]).bind fun p10 =>
    (fX1_pianoOf p10 v4 S).bind fun r13 =>
    so_gd (decide (r13 % 64 ∈ [4])) fun _ =>
    (so_rk (so_R S f0 10) [0]).bind fun p15 =>
    (fX1_pianoOf p15 f1 S).bind fun r18 =>
    so_gd (decide (r18 % 64 ∈ [4])) fun _ =>
    so_j (κ := Int32 → Option Int32) (ρ := Option Int32) (fun (v20 : Int32) =>
    LX7_fightsAt_15 f0 f1 S n v20 (v4 + (1 : Int32)))
    (fun J21 =>
    if (so_I S r13 0) = (so_I S r18 0) then
    (J21 (v3 &&& (((1 : Int32) <<< (v4 &&& 31)) ^^^ (-1 : Int32))))
    else
    (J21 v3)))
set_option maxHeartbeats 4000000 in
set_option maxRecDepth 100000 in
theorem wX7_fightsAt_15 {res : Int32}   (f0 : Nat) (f1 : Int32)  (S : so_St) (k_f0 : f0 % 64 ∈ [22]) : ∀ (n : Nat) (v3 : Int32) (v4 : Int32), LX7_fightsAt_15 f0 f1 S n v3 v4 = some res → jg_ (S, S, .inl (some (.int res))) kX7_fightsAt 15 [(0, .ref f0), (1, .int f1), (3, .int v3), (4, .int v4)] [] S := by
  intro n
  induction n with
  | zero =>
    intro v3 v4 hf
    exact so_no hf
  | succ n ih =>
    intro v3 v4 hf
    rw [LX7_fightsAt_15] at hf
    refine jr_iload dX7_fightsAt_15 rfl ?_
    refine jr_aload_n dX7_fightsAt_17 rfl rfl jv_rr ?_
    refine jr_getR fl_X7_3_22 k_f0 (so_n26 rfl) dX7_fightsAt_18 ?_
    obtain ⟨p5, h6, hf⟩ := so_b hf
    obtain ⟨h6, k_p5⟩ := so_rk_s h6
    refine jr_rf h6 ?_
    obtain ⟨r8, h7, hf⟩ := so_b hf
    refine jr_callM (st := [.int v4]) lk_X7_58_0 (wX1_pianos p5 S k_p5 h7) k_p5 rfl rfl rfl (so_le rfl) (so_le rfl) dX7_fightsAt_21 ?_
    refine jr_icmp_ge (tgt := 68) dX7_fightsAt_24 rfl (fun c9 => ?_) (fun c9 => ?_)
    · have hf := so_t c9 hf
      refine jr_iload_n dX7_fightsAt_68 rfl rfl ?_
      obtain rfl := so_e1 hf
      exact jr_iret rfl rfl dX7_fightsAt_69
    · have hf := so_f c9 hf
      refine jr_aload_n dX7_fightsAt_27 rfl rfl jv_rr ?_
      refine jr_getR fl_X7_3_22 k_f0 (so_n26 rfl) dX7_fightsAt_28 ?_
      obtain ⟨p10, h11, hf⟩ := so_b hf
      obtain ⟨h11, k_p10⟩ := so_rk_s h11
      refine jr_rf h11 ?_
      refine jr_iload dX7_fightsAt_31 rfl ?_
      obtain ⟨r13, h12, hf⟩ := so_b hf
      obtain ⟨g14, hf⟩ := so_gdE hf
      refine jr_callM (st := []) lk_X7_73_0 (wX1_pianoOf p10 v4 S k_p10 h12) k_p10 rfl rfl rfl (so_le rfl) (so_le rfl) dX7_fightsAt_33 ?_
      refine jr_getI fl_X7_82_4 (of_decide_eq_true g14) (so_n26 rfl) dX7_fightsAt_36 ?_
      refine jr_aload_n dX7_fightsAt_39 rfl rfl jv_rr ?_
      refine jr_getR fl_X7_3_22 k_f0 (so_n26 rfl) dX7_fightsAt_40 ?_
      obtain ⟨p15, h16, hf⟩ := so_b hf
      obtain ⟨h16, k_p15⟩ := so_rk_s h16
      refine jr_rf h16 ?_
      refine jr_iload_n dX7_fightsAt_43 rfl rfl ?_
      obtain ⟨r18, h17, hf⟩ := so_b hf
      obtain ⟨g19, hf⟩ := so_gdE hf
      refine jr_callM (st := [.int (so_I S r13 0)]) lk_X7_73_0 (wX1_pianoOf p15 f1 S k_p15 h17) k_p15 rfl rfl rfl (so_le rfl) (so_le rfl) dX7_fightsAt_44 ?_
      refine jr_getI fl_X7_82_4 (of_decide_eq_true g19) (so_n26 rfl) dX7_fightsAt_47 ?_
      refine so_jE hf (fun J => ∀ (v20 : Int32), J v20 = some res → jg_ (S, S, .inl (some (.int res))) kX7_fightsAt 62 [(0, .ref f0), (1, .int f1), (3, .int v20), (4, .int v4)] [] S) (fun v20 hf => ?_) (fun J21 hJ21 hf => ?_)
      · refine jr_iinc (v := v4 + (1 : Int32)) (lv' := [(0, .ref f0), (1, .int f1), (3, .int v20), (4, .int (v4 + (1 : Int32)))]) dX7_fightsAt_62 rfl rfl (so_le rfl) rfl ?_
        refine jr_goto (tgt := 15) dX7_fightsAt_65 rfl ?_
        exact ih v20 (v4 + (1 : Int32)) hf
      · refine jr_icmp_ne (tgt := 62) dX7_fightsAt_50 rfl (fun c22 => ?_) (fun c22 => ?_)
        · have hf := so_f c22 hf
          exact hJ21 v3 hf
        · have hf := so_t c22 hf
          refine jr_iload_n dX7_fightsAt_53 rfl rfl ?_
          refine jr_iconst dX7_fightsAt_54 ic_1 ?_
          refine jr_iload dX7_fightsAt_55 rfl ?_
          refine jr_ishl dX7_fightsAt_57 ?_
          refine jr_iconst dX7_fightsAt_58 ic_m1 ?_
          refine jr_ixor dX7_fightsAt_59 ?_
          refine jr_iand dX7_fightsAt_60 ?_
          refine jr_istore_n (lv' := [(0, .ref f0), (1, .int f1), (3, .int (v3 &&& (((1 : Int32) <<< (v4 &&& 31)) ^^^ (-1 : Int32)))), (4, .int v4)]) dX7_fightsAt_61 rfl (so_le rfl) rfl ?_
          exact hJ21 (v3 &&& (((1 : Int32) <<< (v4 &&& 31)) ^^^ (-1 : Int32))) hf
def fX7_fightsAt (a0 : Nat) (a1 : Int32) (a2 : Int32) (S : so_St) : Option Int32 :=
  (fX7_next a0 a2 S).bind fun r2 =>
  LX7_fightsAt_15 a0 a1 S so_N (r2 &&& (((1 : Int32) <<< (a1 &&& 31)) ^^^ (-1 : Int32))) (0 : Int32)
set_option maxHeartbeats 4000000 in
set_option maxRecDepth 100000 in
theorem wX7_fightsAt {res : Int32}  (a0 : Nat) (a1 : Int32) (a2 : Int32)  (S : so_St) (k_a0 : a0 % 64 ∈ [22]) (hf : fX7_fightsAt a0 a1 a2 S = some res) : jx_Sp 4 yX7_fightsAt (ws_ yX7_fightsAt cX7_fightsAt 5 (Option.some Jvm.ClassFile.FieldType.int)) [.ref a0, .int a1, .int a2] S (.inl (some (.int res))) S := by
  refine jx_of (plainFor_of_name (by decide)) (so_le rfl) ?_
  show jg_ (S, S, .inl (some (.int res))) kX7_fightsAt 0 [(0, .ref a0), (1, .int a1), (2, .int a2)] [] S
  unfold fX7_fightsAt at hf
  refine jr_aload_n dX7_fightsAt_0 rfl rfl jv_rr ?_
  refine jr_iload_n dX7_fightsAt_1 rfl rfl ?_
  obtain ⟨r2, h1, hf⟩ := so_b hf
  refine jr_callM (st := []) lk_X7_84_22 (wX7_next a0 a2 S k_a0 h1) k_a0 rfl rfl rfl (so_le rfl) (so_le rfl) dX7_fightsAt_2 ?_
  refine jr_iconst dX7_fightsAt_5 ic_1 ?_
  refine jr_iload_n dX7_fightsAt_6 rfl rfl ?_
  refine jr_ishl dX7_fightsAt_7 ?_
  refine jr_iconst dX7_fightsAt_8 ic_m1 ?_
  refine jr_ixor dX7_fightsAt_9 ?_
  refine jr_iand dX7_fightsAt_10 ?_
  refine jr_istore_n (lv' := [(0, .ref a0), (1, .int a1), (2, .int a2), (3, .int (r2 &&& (((1 : Int32) <<< (a1 &&& 31)) ^^^ (-1 : Int32))))]) dX7_fightsAt_11 rfl (so_le rfl) rfl ?_
  refine jr_iconst dX7_fightsAt_12 ic_0 ?_
  refine jr_istore (lv' := [(0, .ref a0), (1, .int a1), (2, .int a2), (3, .int (r2 &&& (((1 : Int32) <<< (a1 &&& 31)) ^^^ (-1 : Int32)))), (4, .int (0 : Int32))]) dX7_fightsAt_13 (so_le rfl) rfl ?_
  refine jr_sub [0, 1, 3, 4] rfl ?_
  refine wX7_fightsAt_15 a0 a1 S k_a0 so_N (r2 &&& (((1 : Int32) <<< (a1 &&& 31)) ^^^ (-1 : Int32))) (0 : Int32) hf

/- X7_fights -/
abbrev kX7_fights : jx_K := (cX7_fights, 2, RX7, 5, (Option.some Jvm.ClassFile.FieldType.int), "fights", [])
def fX7_fights (a0 : Nat) (a1 : Int32) (S : so_St) : Option Int32 :=
  (so_rk (so_R S a0 0) [50]).bind fun p1 =>
  so_gd (so_in a1 (so_l S p1)) fun _ =>
  if (so_I S p1 a1.toNatClampNeg) = (-1 : Int32) then
  (some (0 : Int32))
  else
  ((so_rk (so_R S a0 0) [50]).bind fun p5 =>
  so_gd (so_in a1 (so_l S p5)) fun _ =>
  (fX7_fightsAt a0 a1 (so_I S p5 a1.toNatClampNeg) S).bind fun r9 =>
  some r9)
set_option maxHeartbeats 4000000 in
set_option maxRecDepth 100000 in
theorem wX7_fights {res : Int32}  (a0 : Nat) (a1 : Int32)  (S : so_St) (k_a0 : a0 % 64 ∈ [22]) (hf : fX7_fights a0 a1 S = some res) : jx_Sp 5 yX7_fights (ws_ yX7_fights cX7_fights 2 (Option.some Jvm.ClassFile.FieldType.int)) [.ref a0, .int a1] S (.inl (some (.int res))) S := by
  refine jx_of (plainFor_of_name (by decide)) (so_le rfl) ?_
  show jg_ (S, S, .inl (some (.int res))) kX7_fights 0 [(0, .ref a0), (1, .int a1)] [] S
  unfold fX7_fights at hf
  refine jr_aload_n dX7_fights_0 rfl rfl jv_rr ?_
  refine jr_getR fl_X7_15_22 k_a0 (so_n26 rfl) dX7_fights_1 ?_
  obtain ⟨p1, h2, hf⟩ := so_b hf
  obtain ⟨h2, k_p1⟩ := so_rk_s h2
  refine jr_rf h2 ?_
  refine jr_iload_n dX7_fights_4 rfl rfl ?_
  obtain ⟨g3, hf⟩ := so_gdE hf
  refine jr_iaload (so_m1 k_p1) (so_inE g3) dX7_fights_5 ?_
  refine jr_iconst dX7_fights_6 ic_m1 ?_
  refine jr_icmp_ne (tgt := 14) dX7_fights_7 rfl (fun c4 => ?_) (fun c4 => ?_)
  · have hf := so_f c4 hf
    refine jr_aload_n dX7_fights_14 rfl rfl jv_rr ?_
    refine jr_iload_n dX7_fights_15 rfl rfl ?_
    refine jr_aload_n dX7_fights_16 rfl rfl jv_rr ?_
    refine jr_getR fl_X7_15_22 k_a0 (so_n26 rfl) dX7_fights_17 ?_
    obtain ⟨p5, h6, hf⟩ := so_b hf
    obtain ⟨h6, k_p5⟩ := so_rk_s h6
    refine jr_rf h6 ?_
    refine jr_iload_n dX7_fights_20 rfl rfl ?_
    obtain ⟨g7, hf⟩ := so_gdE hf
    refine jr_iaload (so_m1 k_p5) (so_inE g7) dX7_fights_21 ?_
    obtain ⟨r9, h8, hf⟩ := so_b hf
    refine jr_callM (st := []) lk_X7_97_22 (wX7_fightsAt a0 a1 (so_I S p5 a1.toNatClampNeg) S k_a0 h8) k_a0 rfl rfl rfl (so_le rfl) (so_le rfl) dX7_fights_22 ?_
    obtain rfl := so_e1 hf
    exact jr_iret rfl rfl dX7_fights_25
  · have hf := so_t c4 hf
    refine jr_iconst dX7_fights_10 ic_0 ?_
    refine jr_goto (tgt := 25) dX7_fights_11 rfl ?_
    obtain rfl := so_e1 hf
    exact jr_iret rfl rfl dX7_fights_25

/- X7_brings -/
abbrev kX7_brings : jx_K := (cX7_brings, 5, RX7, 1204, (Option.some Jvm.ClassFile.FieldType.int), "brings", [])
def LX7_brings_15 (f0 : Nat) (f3 : Int32) (k55 : Int32 → so_St → Option (Int32 × so_St)) : Nat → Int32 → Int32 → so_St → Option (Int32 × so_St)
  | 0, _, _, _ => none
  | n + 1, v6, v7, S8 =>
    (so_rk (so_R S8 f0 10) [0]).bind fun p9 =>
    (fX1_pianos p9 S8).bind fun r12 =>
    if r12 ≤ v7 then
    (k55 v6 S8)
    else
    (so_j (κ := Int32 → so_St → Option (Int32 × so_St)) (ρ := Option (Int32 × so_St)) (fun (v14 : Int32) (S15 : so_St) =>
    LX7_brings_15 f0 f3 k55 n (v6 - v14) (v7 + (1 : Int32)) S15)
    (fun J16 =>
    if (fX1_has f3 v7) = (0 : Int32) then
    (J16 (0 : Int32) S8)
    else
    (so_b2 (fX7_force f0 v7 S8) fun r19 S20 =>
    J16 r19 S20)))
set_option maxHeartbeats 4000000 in
set_option maxRecDepth 100000 in
theorem wX7_brings_15 {res : Int32} {S' : so_St} {S0 : so_St}   (f0 : Nat) (f3 : Int32)   (k_f0 : f0 % 64 ∈ [22]) (k55 : Int32 → so_St → Option (Int32 × so_St)) (h55 : ∀ (v21 : Int32) (S22 : so_St), k55 v21 S22 = some (res, S') → jg_ (S0, S', .inl (some (.int res))) kX7_brings 55 [(2, .int v21)] [] S22) : ∀ (n : Nat) (v6 : Int32) (v7 : Int32) (S8 : so_St), LX7_brings_15 f0 f3 k55 n v6 v7 S8 = some (res, S') → jg_ (S0, S', .inl (some (.int res))) kX7_brings 15 [(0, .ref f0), (2, .int v6), (3, .int f3), (4, .int v7)] [] S8 := by
  intro n
  induction n with
  | zero =>
    intro v6 v7 S8 hf
    exact so_no hf
  | succ n ih =>
    intro v6 v7 S8 hf
    rw [LX7_brings_15] at hf
    refine jr_iload dX7_brings_15 rfl ?_
    refine jr_aload_n dX7_brings_17 rfl rfl jv_rr ?_
    refine jr_getR fl_X7_3_22 k_f0 (so_n26 rfl) dX7_brings_18 ?_
    obtain ⟨p9, h10, hf⟩ := so_b hf
    obtain ⟨h10, k_p9⟩ := so_rk_s h10
    refine jr_rf h10 ?_
    obtain ⟨r12, h11, hf⟩ := so_b hf
    refine jr_callM (st := [.int v7]) lk_X7_58_0 (wX1_pianos p9 S8 k_p9 h11) k_p9 rfl rfl rfl (so_le rfl) (so_le rfl) dX7_brings_21 ?_
    refine jr_icmp_ge (tgt := 55) dX7_brings_24 rfl (fun c13 => ?_) (fun c13 => ?_)
    · have hf := so_t c13 hf
      refine jr_sub [1] rfl ?_
      exact h55 v6 S8 hf
    · have hf := so_f c13 hf
      refine jr_iload_n dX7_brings_27 rfl rfl ?_
      refine jr_iload_n dX7_brings_28 rfl rfl ?_
      refine jr_iload dX7_brings_29 rfl ?_
      refine jr_call (st := [.int v6]) lk_X7_65 (wX1_has f3 v7 S8 rfl) jk_r0 rfl rfl (so_le rfl) (so_le rfl) dX7_brings_31 ?_
      refine so_jE hf (fun J => ∀ (v14 : Int32) (S15 : so_St), J v14 S15 = some (res, S') → jg_ (S0, S', .inl (some (.int res))) kX7_brings 47 [(0, .ref f0), (3, .int f3), (4, .int v7)] [.int v14, .int v6] S15) (fun v14 S15 hf => ?_) (fun J16 hJ16 hf => ?_)
      · refine jr_isub dX7_brings_47 ?_
        refine jr_istore_n (lv' := [(0, .ref f0), (2, .int (v6 - v14)), (3, .int f3), (4, .int v7)]) dX7_brings_48 rfl (so_le rfl) rfl ?_
        refine jr_iinc (v := v7 + (1 : Int32)) (lv' := [(0, .ref f0), (2, .int (v6 - v14)), (3, .int f3), (4, .int (v7 + (1 : Int32)))]) dX7_brings_49 rfl rfl (so_le rfl) rfl ?_
        refine jr_goto (tgt := 15) dX7_brings_52 rfl ?_
        exact ih (v6 - v14) (v7 + (1 : Int32)) S15 hf
      · refine jr_if_eq (tgt := 46) dX7_brings_34 rfl (fun c17 => ?_) (fun c17 => ?_)
        · have hf := so_t c17 hf
          refine jr_iconst dX7_brings_46 ic_0 ?_
          refine jr_sub [0, 2, 3] rfl ?_
          exact hJ16 (0 : Int32) S8 hf
        · have hf := so_f c17 hf
          refine jr_aload_n dX7_brings_37 rfl rfl jv_rr ?_
          refine jr_iload dX7_brings_38 rfl ?_
          obtain ⟨r19, S20, h18, hf⟩ := so_b2E hf
          refine jr_callM (st := [.int v6]) lk_X7_100_22 (wX7_force f0 v7 S8 k_f0 h18) k_f0 rfl rfl rfl (so_le rfl) (so_le rfl) dX7_brings_40 ?_
          refine jr_goto (tgt := 47) dX7_brings_43 rfl ?_
          refine jr_sub [0, 2, 3] rfl ?_
          exact hJ16 r19 S20 hf
def fX7_brings (a0 : Nat) (a1 : Int32) (S : so_St) : Option (Int32 × so_St) :=
  so_b2 (fX7_force a0 a1 S) fun r2 S3 =>
  (fX7_fights a0 a1 S3).bind fun r5 =>
  LX7_brings_15 a0 r5 (fun (v23 : Int32) (S24 : so_St) =>
  some ((fJ12_max (0 : Int32) v23), S24)) so_N r2 (0 : Int32) S3
set_option maxHeartbeats 4000000 in
set_option maxRecDepth 100000 in
theorem wX7_brings {res : Int32} {S' : so_St}  (a0 : Nat) (a1 : Int32)  (S : so_St) (k_a0 : a0 % 64 ∈ [22]) (hf : fX7_brings a0 a1 S = some (res, S')) : jx_Sp 1204 yX7_brings (ws_ yX7_brings cX7_brings 5 (Option.some Jvm.ClassFile.FieldType.int)) [.ref a0, .int a1] S (.inl (some (.int res))) S' := by
  refine jx_of (plainFor_of_name (by decide)) (so_le rfl) ?_
  show jg_ (S, S', .inl (some (.int res))) kX7_brings 0 [(0, .ref a0), (1, .int a1)] [] S
  unfold fX7_brings at hf
  refine jr_aload_n dX7_brings_0 rfl rfl jv_rr ?_
  refine jr_iload_n dX7_brings_1 rfl rfl ?_
  obtain ⟨r2, S3, h1, hf⟩ := so_b2E hf
  refine jr_callM (st := []) lk_X7_100_22 (wX7_force a0 a1 S k_a0 h1) k_a0 rfl rfl rfl (so_le rfl) (so_le rfl) dX7_brings_2 ?_
  refine jr_istore_n (lv' := [(0, .ref a0), (1, .int a1), (2, .int r2)]) dX7_brings_5 rfl (so_le rfl) rfl ?_
  refine jr_aload_n dX7_brings_6 rfl rfl jv_rr ?_
  refine jr_iload_n dX7_brings_7 rfl rfl ?_
  obtain ⟨r5, h4, hf⟩ := so_b hf
  refine jr_callM (st := []) lk_X7_103_22 (wX7_fights a0 a1 S3 k_a0 h4) k_a0 rfl rfl rfl (so_le rfl) (so_le rfl) dX7_brings_8 ?_
  refine jr_istore_n (lv' := [(0, .ref a0), (1, .int a1), (2, .int r2), (3, .int r5)]) dX7_brings_11 rfl (so_le rfl) rfl ?_
  refine jr_iconst dX7_brings_12 ic_0 ?_
  refine jr_istore (lv' := [(0, .ref a0), (1, .int a1), (2, .int r2), (3, .int r5), (4, .int (0 : Int32))]) dX7_brings_13 (so_le rfl) rfl ?_
  refine jr_sub [0, 2, 3, 4] rfl ?_
  refine wX7_brings_15 a0 r5 k_a0 _ (fun v23 S24 hf => ?_) so_N r2 (0 : Int32) S3 hf
  refine jr_iconst dX7_brings_55 ic_0 ?_
  refine jr_iload_n dX7_brings_56 rfl rfl ?_
  refine jr_call (st := []) lk_X7_106 (wJ12_max (0 : Int32) v23 S24 rfl) jk_r0 rfl rfl (so_le rfl) (so_le rfl) dX7_brings_57 ?_
  obtain ⟨rfl, rfl⟩ := so_e2 hf
  exact jr_iret rfl rfl dX7_brings_60

/- X7_passes -/
abbrev kX7_passes : jx_K := (cX7_passes, 3, RX7, 1205, (Option.none : Option Jvm.ClassFile.FieldType), "passes", [])
def LX7_passes_2 (f0 : Nat) (k30 : so_St → Option so_St) : Nat → Int32 → so_St → Option so_St
  | 0, _, _ => none
  | n + 1, v1, S2 =>
    (so_rk (so_R S2 f0 10) [0]).bind fun p3 =>
    (fX1_pianos p3 S2).bind fun r6 =>
    if r6 ≤ v1 then
    (k30 S2)
    else
    ((so_rk (so_R S2 f0 4) [50]).bind fun p8 =>
    so_b2 (fX7_brings f0 v1 S2) fun r11 S12 =>
    so_gd (so_in v1 (so_l S12 p8)) fun _ =>
    so_let (so_sI S12 p8 v1.toNatClampNeg r11) fun S14 =>
    LX7_passes_2 f0 k30 n (v1 + (1 : Int32)) S14)
set_option maxHeartbeats 4000000 in
set_option maxRecDepth 100000 in
theorem wX7_passes_2 {S' : so_St} {S0 : so_St}   (f0 : Nat)   (k_f0 : f0 % 64 ∈ [22]) (k30 : so_St → Option so_St) (h30 : ∀ (S15 : so_St), k30 S15 = some S' → jg_ (S0, S', .inl none) kX7_passes 30 [(0, .ref f0)] [] S15) : ∀ (n : Nat) (v1 : Int32) (S2 : so_St), LX7_passes_2 f0 k30 n v1 S2 = some S' → jg_ (S0, S', .inl none) kX7_passes 2 [(0, .ref f0), (1, .int v1)] [] S2 := by
  intro n
  induction n with
  | zero =>
    intro v1 S2 hf
    exact so_no hf
  | succ n ih =>
    intro v1 S2 hf
    rw [LX7_passes_2] at hf
    refine jr_iload_n dX7_passes_2 rfl rfl ?_
    refine jr_aload_n dX7_passes_3 rfl rfl jv_rr ?_
    refine jr_getR fl_X7_3_22 k_f0 (so_n26 rfl) dX7_passes_4 ?_
    obtain ⟨p3, h4, hf⟩ := so_b hf
    obtain ⟨h4, k_p3⟩ := so_rk_s h4
    refine jr_rf h4 ?_
    obtain ⟨r6, h5, hf⟩ := so_b hf
    refine jr_callM (st := [.int v1]) lk_X7_58_0 (wX1_pianos p3 S2 k_p3 h5) k_p3 rfl rfl rfl (so_le rfl) (so_le rfl) dX7_passes_7 ?_
    refine jr_icmp_ge (tgt := 30) dX7_passes_10 rfl (fun c7 => ?_) (fun c7 => ?_)
    · have hf := so_t c7 hf
      refine jr_sub [0] rfl ?_
      exact h30 S2 hf
    · have hf := so_f c7 hf
      refine jr_aload_n dX7_passes_13 rfl rfl jv_rr ?_
      refine jr_getR fl_X7_28_22 k_f0 (so_n26 rfl) dX7_passes_14 ?_
      obtain ⟨p8, h9, hf⟩ := so_b hf
      obtain ⟨h9, k_p8⟩ := so_rk_s h9
      refine jr_rf h9 ?_
      refine jr_iload_n dX7_passes_17 rfl rfl ?_
      refine jr_aload_n dX7_passes_18 rfl rfl jv_rr ?_
      refine jr_iload_n dX7_passes_19 rfl rfl ?_
      obtain ⟨r11, S12, h10, hf⟩ := so_b2E hf
      refine jr_callM (st := [.int v1, .ref p8]) lk_X7_124_22 (wX7_brings f0 v1 S2 k_f0 h10) k_f0 rfl rfl rfl (so_le rfl) (so_le rfl) dX7_passes_20 ?_
      obtain ⟨g13, hf⟩ := so_gdE hf
      refine jr_iastore (so_m1 k_p8) (so_inE g13) dX7_passes_23 ?_
      refine so_let_e hf (fun S14 hf => ?_)
      refine jr_iinc (v := v1 + (1 : Int32)) (lv' := [(0, .ref f0), (1, .int (v1 + (1 : Int32)))]) dX7_passes_24 rfl rfl (so_le rfl) rfl ?_
      refine jr_goto (tgt := 2) dX7_passes_27 rfl ?_
      exact ih (v1 + (1 : Int32)) S14 hf
def LX7_passes_32 (f0 : Nat) (k118 : so_St → Option so_St) : Nat → Int32 → so_St → Option so_St
  | 0, _, _ => none
  | n + 1, v17, S18 =>
    (so_rk (so_R S18 f0 10) [0]).bind fun p19 =>
    (fX1_pianos p19 S18).bind fun r22 =>
    if r22 ≤ v17 then
    (k118 S18)
    else
    ((so_rk (so_R S18 f0 0) [50]).bind fun p24 =>
    so_gd (so_in v17 (so_l S18 p24)) fun _ =>
    so_j (κ := so_St → Option so_St) (ρ := Option so_St) (fun (S27 : so_St) =>
    LX7_passes_32 f0 k118 n (v17 + (1 : Int32)) S27)
    (fun J28 =>
    if (so_I S18 p24 v17.toNatClampNeg) = (-1 : Int32) then
    (J28 S18)
    else
    ((so_rk (so_R S18 f0 0) [50]).bind fun p30 =>
    so_gd (so_in v17 (so_l S18 p30)) fun _ =>
    (so_rk (so_R S18 f0 10) [0]).bind fun p33 =>
    (fX1_pianoOf p33 v17 S18).bind fun r36 =>
    so_gd (decide (r36 % 64 ∈ [4])) fun _ =>
    (so_rk (so_R S18 f0 3) [50]).bind fun p38 =>
    (so_rk (so_R S18 f0 3) [50]).bind fun p40 =>
    so_gd (so_in (((10 : Int32) * (so_I S18 p30 v17.toNatClampNeg)) + (so_I S18 r36 0)) (so_l S18 p40)) fun _ =>
    (so_rk (so_R S18 f0 4) [50]).bind fun p43 =>
    so_gd (so_in v17 (so_l S18 p43)) fun _ =>
    so_gd (so_in (((10 : Int32) * (so_I S18 p30 v17.toNatClampNeg)) + (so_I S18 r36 0)) (so_l S18 p38)) fun _ =>
    so_let (so_sI S18 p38 (((10 : Int32) * (so_I S18 p30 v17.toNatClampNeg)) + (so_I S18 r36 0)).toNatClampNeg (fJ12_min (99 : Int32) ((so_I S18 p40 (((10 : Int32) * (so_I S18 p30 v17.toNatClampNeg)) + (so_I S18 r36 0)).toNatClampNeg) + (so_I S18 p43 v17.toNatClampNeg)))) fun S47 =>
    (so_rk (so_R S47 f0 2) [50]).bind fun p48 =>
    so_gd (so_in v17 (so_l S47 p48)) fun _ =>
    so_gd (so_in v17 (so_l S47 p48)) fun _ =>
    so_let (so_sI S47 p48 v17.toNatClampNeg ((so_I S47 p48 v17.toNatClampNeg) + (1 : Int32))) fun S52 =>
    J28 S52)))
set_option maxHeartbeats 4000000 in
set_option maxRecDepth 100000 in
theorem wX7_passes_32 {S' : so_St} {S0 : so_St}   (f0 : Nat)   (k_f0 : f0 % 64 ∈ [22]) (k118 : so_St → Option so_St) (h118 : ∀ (S53 : so_St), k118 S53 = some S' → jg_ (S0, S', .inl none) kX7_passes 118 [(0, .ref f0)] [] S53) : ∀ (n : Nat) (v17 : Int32) (S18 : so_St), LX7_passes_32 f0 k118 n v17 S18 = some S' → jg_ (S0, S', .inl none) kX7_passes 32 [(0, .ref f0), (1, .int v17)] [] S18 := by
  intro n
  induction n with
  | zero =>
    intro v17 S18 hf
    exact so_no hf
  | succ n ih =>
    intro v17 S18 hf
    rw [LX7_passes_32] at hf
    refine jr_iload_n dX7_passes_32 rfl rfl ?_
    refine jr_aload_n dX7_passes_33 rfl rfl jv_rr ?_
    refine jr_getR fl_X7_3_22 k_f0 (so_n26 rfl) dX7_passes_34 ?_
    obtain ⟨p19, h20, hf⟩ := so_b hf
    obtain ⟨h20, k_p19⟩ := so_rk_s h20
    refine jr_rf h20 ?_
    obtain ⟨r22, h21, hf⟩ := so_b hf
    refine jr_callM (st := [.int v17]) lk_X7_58_0 (wX1_pianos p19 S18 k_p19 h21) k_p19 rfl rfl rfl (so_le rfl) (so_le rfl) dX7_passes_37 ?_
    refine jr_icmp_ge (tgt := 118) dX7_passes_40 rfl (fun c23 => ?_) (fun c23 => ?_)
    · have hf := so_t c23 hf
      refine jr_sub [0] rfl ?_
      exact h118 S18 hf
    · have hf := so_f c23 hf
      refine jr_aload_n dX7_passes_43 rfl rfl jv_rr ?_
      refine jr_getR fl_X7_15_22 k_f0 (so_n26 rfl) dX7_passes_44 ?_
      obtain ⟨p24, h25, hf⟩ := so_b hf
      obtain ⟨h25, k_p24⟩ := so_rk_s h25
      refine jr_rf h25 ?_
      refine jr_iload_n dX7_passes_47 rfl rfl ?_
      obtain ⟨g26, hf⟩ := so_gdE hf
      refine jr_iaload (so_m1 k_p24) (so_inE g26) dX7_passes_48 ?_
      refine jr_iconst dX7_passes_49 ic_m1 ?_
      refine so_jE hf (fun J => ∀ (S27 : so_St), J S27 = some S' → jg_ (S0, S', .inl none) kX7_passes 112 [(0, .ref f0), (1, .int v17)] [] S27) (fun S27 hf => ?_) (fun J28 hJ28 hf => ?_)
      · refine jr_iinc (v := v17 + (1 : Int32)) (lv' := [(0, .ref f0), (1, .int (v17 + (1 : Int32)))]) dX7_passes_112 rfl rfl (so_le rfl) rfl ?_
        refine jr_goto (tgt := 32) dX7_passes_115 rfl ?_
        exact ih (v17 + (1 : Int32)) S27 hf
      · refine jr_icmp_ne (tgt := 56) dX7_passes_50 rfl (fun c29 => ?_) (fun c29 => ?_)
        · have hf := so_f c29 hf
          refine jr_bipush dX7_passes_56 bp_10 ?_
          refine jr_aload_n dX7_passes_58 rfl rfl jv_rr ?_
          refine jr_getR fl_X7_15_22 k_f0 (so_n26 rfl) dX7_passes_59 ?_
          obtain ⟨p30, h31, hf⟩ := so_b hf
          obtain ⟨h31, k_p30⟩ := so_rk_s h31
          refine jr_rf h31 ?_
          refine jr_iload_n dX7_passes_62 rfl rfl ?_
          obtain ⟨g32, hf⟩ := so_gdE hf
          refine jr_iaload (so_m1 k_p30) (so_inE g32) dX7_passes_63 ?_
          refine jr_imul dX7_passes_64 ?_
          refine jr_aload_n dX7_passes_65 rfl rfl jv_rr ?_
          refine jr_getR fl_X7_3_22 k_f0 (so_n26 rfl) dX7_passes_66 ?_
          obtain ⟨p33, h34, hf⟩ := so_b hf
          obtain ⟨h34, k_p33⟩ := so_rk_s h34
          refine jr_rf h34 ?_
          refine jr_iload_n dX7_passes_69 rfl rfl ?_
          obtain ⟨r36, h35, hf⟩ := so_b hf
          obtain ⟨g37, hf⟩ := so_gdE hf
          refine jr_callM (st := [.int ((10 : Int32) * (so_I S18 p30 v17.toNatClampNeg))]) lk_X7_73_0 (wX1_pianoOf p33 v17 S18 k_p33 h35) k_p33 rfl rfl rfl (so_le rfl) (so_le rfl) dX7_passes_70 ?_
          refine jr_getI fl_X7_82_4 (of_decide_eq_true g37) (so_n26 rfl) dX7_passes_73 ?_
          refine jr_iadd dX7_passes_76 ?_
          refine jr_istore_n (lv' := [(0, .ref f0), (1, .int v17), (2, .int (((10 : Int32) * (so_I S18 p30 v17.toNatClampNeg)) + (so_I S18 r36 0)))]) dX7_passes_77 rfl (so_le rfl) rfl ?_
          refine jr_aload_n dX7_passes_78 rfl rfl jv_rr ?_
          refine jr_getR fl_X7_25_22 k_f0 (so_n26 rfl) dX7_passes_79 ?_
          obtain ⟨p38, h39, hf⟩ := so_b hf
          obtain ⟨h39, k_p38⟩ := so_rk_s h39
          refine jr_rf h39 ?_
          refine jr_iload_n dX7_passes_82 rfl rfl ?_
          refine jr_bipush dX7_passes_83 bp_99 ?_
          refine jr_aload_n dX7_passes_85 rfl rfl jv_rr ?_
          refine jr_getR fl_X7_25_22 k_f0 (so_n26 rfl) dX7_passes_86 ?_
          obtain ⟨p40, h41, hf⟩ := so_b hf
          obtain ⟨h41, k_p40⟩ := so_rk_s h41
          refine jr_rf h41 ?_
          refine jr_iload_n dX7_passes_89 rfl rfl ?_
          obtain ⟨g42, hf⟩ := so_gdE hf
          refine jr_iaload (so_m1 k_p40) (so_inE g42) dX7_passes_90 ?_
          refine jr_aload_n dX7_passes_91 rfl rfl jv_rr ?_
          refine jr_getR fl_X7_28_22 k_f0 (so_n26 rfl) dX7_passes_92 ?_
          obtain ⟨p43, h44, hf⟩ := so_b hf
          obtain ⟨h44, k_p43⟩ := so_rk_s h44
          refine jr_rf h44 ?_
          refine jr_iload_n dX7_passes_95 rfl rfl ?_
          obtain ⟨g45, hf⟩ := so_gdE hf
          refine jr_iaload (so_m1 k_p43) (so_inE g45) dX7_passes_96 ?_
          refine jr_iadd dX7_passes_97 ?_
          refine jr_call (st := [.int (((10 : Int32) * (so_I S18 p30 v17.toNatClampNeg)) + (so_I S18 r36 0)), .ref p38]) lk_X7_127 (wJ12_min (99 : Int32) ((so_I S18 p40 (((10 : Int32) * (so_I S18 p30 v17.toNatClampNeg)) + (so_I S18 r36 0)).toNatClampNeg) + (so_I S18 p43 v17.toNatClampNeg)) S18 rfl) jk_r0 rfl rfl (so_le rfl) (so_le rfl) dX7_passes_98 ?_
          obtain ⟨g46, hf⟩ := so_gdE hf
          refine jr_iastore (so_m1 k_p38) (so_inE g46) dX7_passes_101 ?_
          refine so_let_e hf (fun S47 hf => ?_)
          refine jr_aload_n dX7_passes_102 rfl rfl jv_rr ?_
          refine jr_getR fl_X7_22_22 k_f0 (so_n26 rfl) dX7_passes_103 ?_
          obtain ⟨p48, h49, hf⟩ := so_b hf
          obtain ⟨h49, k_p48⟩ := so_rk_s h49
          refine jr_rf h49 ?_
          refine jr_iload_n dX7_passes_106 rfl rfl ?_
          refine jr_dup2 dX7_passes_107 rfl rfl ?_
          obtain ⟨g50, hf⟩ := so_gdE hf
          refine jr_iaload (so_m1 k_p48) (so_inE g50) dX7_passes_108 ?_
          refine jr_iconst dX7_passes_109 ic_1 ?_
          refine jr_iadd dX7_passes_110 ?_
          obtain ⟨g51, hf⟩ := so_gdE hf
          refine jr_iastore (so_m1 k_p48) (so_inE g51) dX7_passes_111 ?_
          refine so_let_e hf (fun S52 hf => ?_)
          refine jr_sub [0, 1] rfl ?_
          exact hJ28 S52 hf
        · have hf := so_t c29 hf
          refine jr_goto (tgt := 112) dX7_passes_53 rfl ?_
          exact hJ28 S18 hf
def fX7_passes (a0 : Nat) (S : so_St) : Option so_St :=
  LX7_passes_2 a0 (fun (S16 : so_St) =>
  LX7_passes_32 a0 (fun (S54 : so_St) =>
  so_let (so_sI S54 a0 6 ((so_I S54 a0 6) + (1 : Int32))) fun S55 =>
  some S55) so_N (0 : Int32) S16) so_N (0 : Int32) S
set_option maxHeartbeats 4000000 in
set_option maxRecDepth 100000 in
theorem wX7_passes {S' : so_St}  (a0 : Nat)  (S : so_St) (k_a0 : a0 % 64 ∈ [22]) (hf : fX7_passes a0 S = some S') : jx_Sp 1205 yX7_passes (ws_ yX7_passes cX7_passes 3 (Option.none : Option Jvm.ClassFile.FieldType)) [.ref a0] S (.inl none) S' := by
  refine jx_of (plainFor_of_name (by decide)) (so_le rfl) ?_
  show jg_ (S, S', .inl none) kX7_passes 0 [(0, .ref a0)] [] S
  unfold fX7_passes at hf
  refine jr_iconst dX7_passes_0 ic_0 ?_
  refine jr_istore_n (lv' := [(0, .ref a0), (1, .int (0 : Int32))]) dX7_passes_1 rfl (so_le rfl) rfl ?_
  refine wX7_passes_2 a0 k_a0 _ (fun S16 hf => ?_) so_N (0 : Int32) S hf
  refine jr_iconst dX7_passes_30 ic_0 ?_
  refine jr_istore_n (lv' := [(0, .ref a0), (1, .int (0 : Int32))]) dX7_passes_31 rfl (so_le rfl) rfl ?_
  refine wX7_passes_32 a0 k_a0 _ (fun S54 hf => ?_) so_N (0 : Int32) S16 hf
  refine jr_aload_n dX7_passes_118 rfl rfl jv_rr ?_
  refine jr_dup dX7_passes_119 rfl ?_
  refine jr_getI fl_X7_49_22 k_a0 (so_n26 rfl) dX7_passes_120 ?_
  refine jr_iconst dX7_passes_123 ic_1 ?_
  refine jr_iadd dX7_passes_124 ?_
  refine jr_putI fp_X7_49_22 k_a0 (so_n26 rfl) (fun h => by cases h) rfl rfl dX7_passes_125 ?_
  refine so_let_e hf (fun S55 hf => ?_)
  obtain rfl := so_e1 hf
  exact jr_vret rfl dX7_passes_128
