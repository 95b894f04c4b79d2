/-! BASE M: the twin: its shape never changes after its constructor. Cells are numbered as they were made: 0 the object. -/
set_option maxRecDepth 100000
abbrev tm_S : Type := Nat → Nat → Int32
def tm_k (i : Nat) : Nat := if i = 0 then 23 else if 557 ≤ i then 0 else if i = 9 ∨ i = 22 ∨ i = 35 ∨ i = 42 ∨ i = 49 ∨ i = 210 ∨ i = 371 ∨ i = 378 ∨ i = 387 ∨ i = 471 ∨ i = 488 ∨ i = 494 then 56 else 50
def tm_a (i : Nat) : Nat := 64 * (81 + i) + tm_k i
def tm_len (i : Nat) : Nat := if i ≤ 0 then 0 else if i ≤ 1 then 600 else if i ≤ 2 then 2 else if i ≤ 4 then 4 else if i ≤ 8 then 8 else if i ≤ 9 then 12 else if i ≤ 21 then 2 else if i ≤ 22 then 12 else if i ≤ 34 then 2 else if i ≤ 35 then 6 else if i ≤ 41 then 2 else if i ≤ 42 then 6 else if i ≤ 48 then 2 else if i ≤ 49 then 160 else if i ≤ 209 then 2 else if i ≤ 210 then 160 else if i ≤ 370 then 2 else if i ≤ 371 then 6 else if i ≤ 377 then 2 else if i ≤ 378 then 6 else if i ≤ 384 then 2 else if i ≤ 385 then 160 else if i ≤ 386 then 8 else if i ≤ 387 then 80 else if i ≤ 467 then 4 else if i ≤ 469 then 100 else if i ≤ 470 then 6 else if i ≤ 471 then 16 else if i ≤ 487 then 100 else if i ≤ 488 then 3 else if i ≤ 491 then 1701 else if i ≤ 492 then 6 else if i ≤ 494 then 61 else if i ≤ 555 then 100 else if i ≤ 556 then 8 else 0
def tm_fl : List (Nat × Nat) := [(9, 1), (10, 2), (11, 3), (12, 4), (13, 5), (14, 6), (15, 7), (16, 8), (17, 9), (18, 22), (19, 35), (20, 42), (23, 49), (24, 210), (25, 371), (26, 378), (27, 385), (28, 386), (29, 387), (31, 468), (32, 469), (33, 470), (34, 471), (35, 488), (43, 492), (45, 493), (46, 494), (47, 556)]
/-- a reference of the twin -/
def tm_isb (r : Nat) : Bool := decide (81 ≤ r / 64 ∧ r / 64 < 638 ∧ r % 64 = tm_k (r / 64 - 81))
abbrev tm_is (r : Nat) : Prop := tm_isb r = true
/-- the store whose twin holds sg -/
def tm_j (S0 : so_St) (sg : tm_S) : so_St := (S0.1, S0.2.1, S0.2.2.1, fun r => if tm_is r then ((S0.2.2.2 r).1, sg (r / 64 - 81), (S0.2.2.2 r).2.2) else S0.2.2.2 r)
def tm_of (S : so_St) : tm_S := fun i => (S.2.2.2 (tm_a i)).2.1
def tm_up (sg : tm_S) (i p : Nat) (v : Int32) : tm_S := fun i' => if i' = i then upd (sg i) p v else sg i'
theorem tm_k_lt (i : Nat) : tm_k i < 64 := by
  unfold tm_k
  split
  · omega
  · split
    · omega
    · split <;> omega
theorem tm_k_50 {i : Nat} (h : tm_k i = 50) : i < 557 := by
  unfold tm_k at h
  split at h
  · omega
  · split at h
    · omega
    · omega
theorem tm_k_56 {i : Nat} (h : tm_k i = 56) : i = 9 ∨ i = 22 ∨ i = 35 ∨ i = 42 ∨ i = 49 ∨ i = 210 ∨ i = 371 ∨ i = 378 ∨ i = 387 ∨ i = 471 ∨ i = 488 ∨ i = 494 := by
  unfold tm_k at h
  split at h
  · omega
  · split at h
    · omega
    · split at h
      · assumption
      · omega
theorem tm_a_q {i : Nat} : tm_a i / 64 = 81 + i := by
  have := tm_k_lt i
  unfold tm_a
  omega
theorem tm_a_r {i : Nat} : tm_a i % 64 = tm_k i := by
  have := tm_k_lt i
  unfold tm_a
  omega
theorem tm_a_is {i : Nat} (h : i < 557) : tm_is (tm_a i) := by
  refine decide_eq_true ⟨?_, ?_, ?_⟩
  · rw [tm_a_q]; omega
  · rw [tm_a_q]; omega
  · rw [tm_a_q, tm_a_r]
    congr 1
    omega
theorem tm_is_a {r : Nat} (h : tm_is r) : r = tm_a (r / 64 - 81) := by
  obtain ⟨h1, h2, h3⟩ := of_decide_eq_true h
  unfold tm_a
  rw [← h3]
  omega
theorem tm_cell {S0 : so_St} {sg : tm_S} {i : Nat} (h : i < 557) : (tm_j S0 sg).2.2.2 (tm_a i) = ((S0.2.2.2 (tm_a i)).1, sg i, (S0.2.2.2 (tm_a i)).2.2) := by
  show (if tm_is (tm_a i) then _ else _) = _
  rw [if_pos (tm_a_is h), tm_a_q]
  have e : 81 + i - 81 = i := by omega
  rw [e]
theorem tm_I {S0 : so_St} {sg : tm_S} {i p : Nat} (h : i < 557) : so_I (tm_j S0 sg) (tm_a i) p = sg i p := by
  show ((tm_j S0 sg).2.2.2 (tm_a i)).2.1 p = _
  rw [tm_cell h]
theorem tm_sI {S0 : so_St} {sg : tm_S} {i p : Nat} {v : Int32} (h : i < 557) : so_sI (tm_j S0 sg) (tm_a i) p v = tm_j S0 (tm_up sg i p v) := by
  unfold so_sI so_up
  rw [tm_cell h]
  show (S0.1, S0.2.1, S0.2.2.1, _) = (S0.1, S0.2.1, S0.2.2.1, _)
  congr 3
  funext r
  by_cases e : r = tm_a i
  · subst e
    rw [if_pos rfl]
    show _ = (if tm_is (tm_a i) then _ else _)
    rw [if_pos (tm_a_is h), tm_a_q]
    have e9 : 81 + i - 81 = i := by omega
    rw [e9]
    show _ = (_, (if i = i then upd (sg i) p v else sg i), _)
    rw [if_pos rfl]
  · rw [if_neg e]
    show (if tm_is r then _ else _) = (if tm_is r then _ else _)
    by_cases c : tm_is r
    · rw [if_pos c, if_pos c]
      have e9 : r / 64 - 81 ≠ i := fun q => e (by rw [tm_is_a c, q])
      show _ = (_, (if r / 64 - 81 = i then upd (sg i) p v else sg (r / 64 - 81)), _)
      rw [if_neg e9]
    · rw [if_neg c, if_neg c]
theorem tm_jof (S : so_St) : tm_j S (tm_of S) = S := by
  show (S.1, S.2.1, S.2.2.1, _) = S
  congr 3
  funext r
  by_cases c : tm_is r
  · rw [if_pos c]
    show ((S.2.2.2 r).1, (S.2.2.2 (tm_a (r / 64 - 81))).2.1, (S.2.2.2 r).2.2) = S.2.2.2 r
    rw [← tm_is_a c]
  · rw [if_neg c]
/-- the shape -/
def tm_Sh (S : so_St) : Prop := (∀ i, i < 557 → so_l S (tm_a i) = tm_len i) ∧ (∀ q ∈ tm_fl, so_R S (tm_a 0) q.1 = some (tm_a q.2)) ∧ ∀ g j, tm_k g = 56 → j < tm_len g → so_R S (tm_a g) j = some (tm_a (g + 1 + j))
def tm_shb (S : so_St) : Bool := (List.range 557).all (fun i => so_l S (tm_a i) == tm_len i) && tm_fl.all (fun q => so_R S (tm_a 0) q.1 == some (tm_a q.2)) && [9, 22, 35, 42, 49, 210, 371, 378, 387, 471, 488, 494].all (fun g => (List.range (tm_len g)).all (fun j => so_R S (tm_a g) j == some (tm_a (g + 1 + j))))
theorem tm_shE {S : so_St} (h : tm_shb S = true) : tm_Sh S := by
  unfold tm_shb at h
  rw [Bool.and_eq_true, Bool.and_eq_true] at h
  obtain ⟨⟨h1, h2⟩, h3⟩ := h
  refine ⟨fun i hi => ?_, fun q hq => ?_, fun g j hg hj => ?_⟩
  · exact eq_of_beq (List.all_eq_true.mp h1 i (List.mem_range.mpr hi))
  · exact eq_of_beq (List.all_eq_true.mp h2 q hq)
  · have hm : g ∈ [9, 22, 35, 42, 49, 210, 371, 378, 387, 471, 488, 494] := by
      have := tm_k_56 hg
      simp only [List.mem_cons, List.not_mem_nil, or_false]
      exact this
    exact eq_of_beq (List.all_eq_true.mp (List.all_eq_true.mp h3 g hm) j (List.mem_range.mpr hj))
theorem tm_Sh.l {S0 : so_St} {sg : tm_S} (h : tm_Sh S0) {i : Nat} (hi : i < 557) : so_l (tm_j S0 sg) (tm_a i) = tm_len i := by
  show ((tm_j S0 sg).2.2.2 (tm_a i)).1 = _
  rw [tm_cell hi]
  exact h.1 i hi
theorem tm_Sh.f {S0 : so_St} {sg : tm_S} (h : tm_Sh S0) {p c : Nat} (hq : (p, c) ∈ tm_fl) : so_R (tm_j S0 sg) (tm_a 0) p = some (tm_a c) := by
  show ((tm_j S0 sg).2.2.2 (tm_a 0)).2.2.1 p = _
  rw [tm_cell (by omega)]
  exact h.2.1 _ hq
theorem tm_Sh.r {S0 : so_St} {sg : tm_S} (h : tm_Sh S0) {g j : Nat} (hg : tm_k g = 56) (hj : j < tm_len g) : so_R (tm_j S0 sg) (tm_a g) j = some (tm_a (g + 1 + j)) := by
  show ((tm_j S0 sg).2.2.2 (tm_a g)).2.2.1 j = _
  rw [tm_cell (by have := tm_k_56 hg; omega)]
  exact h.2.2 g j hg hj
theorem tm_k0 : tm_k 0 = 23 := rfl
theorem tm_k23 : tm_a 0 % 64 ∈ [23] := so_i1 rfl
theorem tm_krow {g j : Nat} (hg : tm_k g = 56) (hj : j < tm_len g) : tm_k (g + 1 + j) = 50 := by
  have h := tm_k_56 hg
  rcases h with rfl | rfl | rfl | rfl | rfl | rfl | rfl | rfl | rfl | rfl | rfl | rfl
  · have hj : j < 12 := hj
    unfold tm_k
    rw [if_neg (by omega), if_neg (by omega), if_neg (by omega)]
  · have hj : j < 12 := hj
    unfold tm_k
    rw [if_neg (by omega), if_neg (by omega), if_neg (by omega)]
  · have hj : j < 6 := hj
    unfold tm_k
    rw [if_neg (by omega), if_neg (by omega), if_neg (by omega)]
  · have hj : j < 6 := hj
    unfold tm_k
    rw [if_neg (by omega), if_neg (by omega), if_neg (by omega)]
  · have hj : j < 160 := hj
    unfold tm_k
    rw [if_neg (by omega), if_neg (by omega), if_neg (by omega)]
  · have hj : j < 160 := hj
    unfold tm_k
    rw [if_neg (by omega), if_neg (by omega), if_neg (by omega)]
  · have hj : j < 6 := hj
    unfold tm_k
    rw [if_neg (by omega), if_neg (by omega), if_neg (by omega)]
  · have hj : j < 6 := hj
    unfold tm_k
    rw [if_neg (by omega), if_neg (by omega), if_neg (by omega)]
  · have hj : j < 80 := hj
    unfold tm_k
    rw [if_neg (by omega), if_neg (by omega), if_neg (by omega)]
  · have hj : j < 16 := hj
    unfold tm_k
    rw [if_neg (by omega), if_neg (by omega), if_neg (by omega)]
  · have hj : j < 3 := hj
    unfold tm_k
    rw [if_neg (by omega), if_neg (by omega), if_neg (by omega)]
  · have hj : j < 61 := hj
    unfold tm_k
    rw [if_neg (by omega), if_neg (by omega), if_neg (by omega)]
def tm_b2 {α ρ : Type} (x : Option (α × tm_S)) (k : α → tm_S → Option ρ) : Option ρ := x.bind fun q => k q.1 q.2
theorem tm_b2E {α ρ : Type} {x : Option (α × tm_S)} {k : α → tm_S → Option ρ} {r : ρ} (h : tm_b2 x k = some r) : ∃ v S1, x = some (v, S1) ∧ k v S1 = some r := by
  obtain ⟨⟨v, S1⟩, h1, h2⟩ := so_b h
  exact ⟨v, S1, h1, h2⟩
def tm_let {ρ : Type} (e : tm_S) (k : tm_S → Option ρ) : Option ρ := k e
theorem tm_let_e {ρ : Type} {S0 : so_St} {e : tm_S} {k : tm_S → Option ρ} {r : ρ} {P : so_St → Prop} (h : tm_let e k = some r) (g : ∀ s1, k s1 = some r → P (tm_j S0 s1)) : P (tm_j S0 e) := g e h
theorem tm_in {i : Int32} {n : Nat} (h : vp_in i n) : i.toNatClampNeg < n := Nat.not_le.mp fun q => h (Or.inr q)
theorem tm_rl_9 {i : Int32} (h : vp_in i 12) : tm_len (10 + i.toNatClampNeg) = 2 := by
  have h1 := tm_in h
  unfold tm_len
  repeat (first | rw [if_neg (by omega)] | rw [if_pos (by omega)])
theorem tm_rk_9 {i : Int32} (h : vp_in i 12) : tm_k (10 + i.toNatClampNeg) = 50 := tm_krow (g := 9) rfl (tm_in h)
theorem tm_rl_22 {i : Int32} (h : vp_in i 12) : tm_len (23 + i.toNatClampNeg) = 2 := by
  have h1 := tm_in h
  unfold tm_len
  repeat (first | rw [if_neg (by omega)] | rw [if_pos (by omega)])
theorem tm_rk_22 {i : Int32} (h : vp_in i 12) : tm_k (23 + i.toNatClampNeg) = 50 := tm_krow (g := 22) rfl (tm_in h)
theorem tm_rl_35 {i : Int32} (h : vp_in i 6) : tm_len (36 + i.toNatClampNeg) = 2 := by
  have h1 := tm_in h
  unfold tm_len
  repeat (first | rw [if_neg (by omega)] | rw [if_pos (by omega)])
theorem tm_rk_35 {i : Int32} (h : vp_in i 6) : tm_k (36 + i.toNatClampNeg) = 50 := tm_krow (g := 35) rfl (tm_in h)
theorem tm_rl_42 {i : Int32} (h : vp_in i 6) : tm_len (43 + i.toNatClampNeg) = 2 := by
  have h1 := tm_in h
  unfold tm_len
  repeat (first | rw [if_neg (by omega)] | rw [if_pos (by omega)])
theorem tm_rk_42 {i : Int32} (h : vp_in i 6) : tm_k (43 + i.toNatClampNeg) = 50 := tm_krow (g := 42) rfl (tm_in h)
theorem tm_rl_49 {i : Int32} (h : vp_in i 160) : tm_len (50 + i.toNatClampNeg) = 2 := by
  have h1 := tm_in h
  unfold tm_len
  repeat (first | rw [if_neg (by omega)] | rw [if_pos (by omega)])
theorem tm_rk_49 {i : Int32} (h : vp_in i 160) : tm_k (50 + i.toNatClampNeg) = 50 := tm_krow (g := 49) rfl (tm_in h)
theorem tm_rl_210 {i : Int32} (h : vp_in i 160) : tm_len (211 + i.toNatClampNeg) = 2 := by
  have h1 := tm_in h
  unfold tm_len
  repeat (first | rw [if_neg (by omega)] | rw [if_pos (by omega)])
theorem tm_rk_210 {i : Int32} (h : vp_in i 160) : tm_k (211 + i.toNatClampNeg) = 50 := tm_krow (g := 210) rfl (tm_in h)
theorem tm_rl_371 {i : Int32} (h : vp_in i 6) : tm_len (372 + i.toNatClampNeg) = 2 := by
  have h1 := tm_in h
  unfold tm_len
  repeat (first | rw [if_neg (by omega)] | rw [if_pos (by omega)])
theorem tm_rk_371 {i : Int32} (h : vp_in i 6) : tm_k (372 + i.toNatClampNeg) = 50 := tm_krow (g := 371) rfl (tm_in h)
theorem tm_rl_378 {i : Int32} (h : vp_in i 6) : tm_len (379 + i.toNatClampNeg) = 2 := by
  have h1 := tm_in h
  unfold tm_len
  repeat (first | rw [if_neg (by omega)] | rw [if_pos (by omega)])
theorem tm_rk_378 {i : Int32} (h : vp_in i 6) : tm_k (379 + i.toNatClampNeg) = 50 := tm_krow (g := 378) rfl (tm_in h)
theorem tm_rl_387 {i : Int32} (h : vp_in i 80) : tm_len (388 + i.toNatClampNeg) = 4 := by
  have h1 := tm_in h
  unfold tm_len
  repeat (first | rw [if_neg (by omega)] | rw [if_pos (by omega)])
theorem tm_rk_387 {i : Int32} (h : vp_in i 80) : tm_k (388 + i.toNatClampNeg) = 50 := tm_krow (g := 387) rfl (tm_in h)
theorem tm_rl_471 {i : Int32} (h : vp_in i 16) : tm_len (472 + i.toNatClampNeg) = 100 := by
  have h1 := tm_in h
  unfold tm_len
  repeat (first | rw [if_neg (by omega)] | rw [if_pos (by omega)])
theorem tm_rk_471 {i : Int32} (h : vp_in i 16) : tm_k (472 + i.toNatClampNeg) = 50 := tm_krow (g := 471) rfl (tm_in h)
theorem tm_rl_488 {i : Int32} (h : vp_in i 3) : tm_len (489 + i.toNatClampNeg) = 1701 := by
  have h1 := tm_in h
  unfold tm_len
  repeat (first | rw [if_neg (by omega)] | rw [if_pos (by omega)])
theorem tm_rk_488 {i : Int32} (h : vp_in i 3) : tm_k (489 + i.toNatClampNeg) = 50 := tm_krow (g := 488) rfl (tm_in h)
theorem tm_rl_494 {i : Int32} (h : vp_in i 61) : tm_len (495 + i.toNatClampNeg) = 100 := by
  have h1 := tm_in h
  unfold tm_len
  repeat (first | rw [if_neg (by omega)] | rw [if_pos (by omega)])
theorem tm_rk_494 {i : Int32} (h : vp_in i 61) : tm_k (495 + i.toNatClampNeg) = 50 := tm_krow (g := 494) rfl (tm_in h)
section TR
variable {T : jx_T} {K : jx_K} {pc : Nat} {lv lv' : List (Nat × Value)} {st st' : List Value} {S0 : so_St} {sg : tm_S}
theorem tr_getI {idx p : Nat} (hF : jf_ K.2.2.1 idx [23] p false) (hd : decode K.1 pc = .ok (.getfield idx, 3)) (k : jg_ T K (pc + 3) lv (.int (sg 0 p) :: st) (tm_j S0 sg)) : jg_ T K pc lv (.ref (tm_a 0) :: st) (tm_j S0 sg) :=
  jr_getI hF tm_k23 (so_n26 rfl) hd (by rw [tm_I (by omega)]; exact k)
theorem tr_getR {idx p c : Nat} (hT : tm_Sh S0) (hq : (p, c) ∈ tm_fl) (hF : jf_ K.2.2.1 idx [23] p true) (hd : decode K.1 pc = .ok (.getfield idx, 3)) (k : jg_ T K (pc + 3) lv (.ref (tm_a c) :: st) (tm_j S0 sg)) : jg_ T K pc lv (.ref (tm_a 0) :: st) (tm_j S0 sg) :=
  jr_getR hF tm_k23 (so_n26 rfl) hd (by rw [hT.f hq]; exact k)
theorem tr_putI {idx p : Nat} {v : Int32} (hF : jfp_ K.2.2.1 idx [23] p false false .int) (hd : decode K.1 pc = .ok (.putfield idx, 3)) (k : jg_ T K (pc + 3) lv st (tm_j S0 (tm_up sg 0 p v))) : jg_ T K pc lv (.int v :: .ref (tm_a 0) :: st) (tm_j S0 sg) :=
  jr_putI hF tm_k23 (so_n26 rfl) (fun h => by cases h) rfl rfl hd (by rw [tm_sI (by omega)]; exact k)
theorem tr_iaload {c n : Nat} {i : Int32} (hT : tm_Sh S0) (hk : tm_k c = 50) (hl : tm_len c = n) (hin : vp_in i n) (hd : decode K.1 pc = .ok (.iaload, 1)) (k : jg_ T K (pc + 1) lv (.int (sg c i.toNatClampNeg) :: st) (tm_j S0 sg)) : jg_ T K pc lv (.int i :: .ref (tm_a c) :: st) (tm_j S0 sg) :=
  jr_iaload (tm_a_r.trans hk) (by rw [hT.l (tm_k_50 hk), hl]; exact hin) hd (by rw [tm_I (tm_k_50 hk)]; exact k)
theorem tr_iastore {c n : Nat} {i v : Int32} (hT : tm_Sh S0) (hk : tm_k c = 50) (hl : tm_len c = n) (hin : vp_in i n) (hd : decode K.1 pc = .ok (.iastore, 1)) (k : jg_ T K (pc + 1) lv st (tm_j S0 (tm_up sg c i.toNatClampNeg v))) : jg_ T K pc lv (.int v :: .int i :: .ref (tm_a c) :: st) (tm_j S0 sg) :=
  jr_iastore (tm_a_r.trans hk) (by rw [hT.l (tm_k_50 hk), hl]; exact hin) hd (by rw [tm_sI (tm_k_50 hk)]; exact k)
theorem tr_aaload {g g' n : Nat} {i : Int32} (hT : tm_Sh S0) (hk : tm_k g = 56) (hl : tm_len g = n) (hg : g + 1 = g') (hin : vp_in i n) (hd : decode K.1 pc = .ok (.aaload, 1)) (k : jg_ T K (pc + 1) lv (.ref (tm_a (g' + i.toNatClampNeg)) :: st) (tm_j S0 sg)) : jg_ T K pc lv (.int i :: .ref (tm_a g) :: st) (tm_j S0 sg) := by
  subst hg
  subst hl
  exact jr_aaloadG (tm_a_r.trans hk) (by rw [hT.l (by have := tm_k_56 hk; omega)]; exact hin) hd (by rw [hT.r hk (tm_in hin)]; exact k)
theorem tr_alen {c n : Nat} (hT : tm_Sh S0) (hk : tm_k c = 50) (hl : tm_len c = n) (hd : decode K.1 pc = .ok (.arraylength, 1)) (k : jg_ T K (pc + 1) lv (.int (Int32.ofNat n) :: st) (tm_j S0 sg)) : jg_ T K pc lv (.ref (tm_a c) :: st) (tm_j S0 sg) :=
  jr_alen (so_ms (so_i1 (tm_a_r.trans hk)) rfl) hd (by rw [hT.l (tm_k_50 hk), hl]; exact k)
end TR
