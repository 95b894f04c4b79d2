/-! new int[n][m]: one cell of rows, n rows behind it (the library's law multianewarray2F, MA6) -/
set_option maxRecDepth 100000
theorem gd_form (c : ClassId) (N h0 : Nat) : ∀ i, Jvm.Free.Multi.outerC c N h0 i = { cls := c, slots := (Jvm.Free.Multi.outerC c N h0 i).slots }
  | 0 => rfl
  | i + 1 => by
    show (Jvm.Free.Multi.outerC c N h0 i).setSlot i (.ref (h0 + 1 + i)) = { cls := c, slots := ((Jvm.Free.Multi.outerC c N h0 i).setSlot i (.ref (h0 + 1 + i))).slots }
    rw [gd_form c N h0 i]
    rfl
theorem gd_outer (c : ClassId) (N h0 : Nat) : Jvm.Free.Multi.outerC c N h0 N = arrV c N (fun j => .ref (h0 + 1 + j)) := by
  rw [gd_form]
  unfold arrV
  congr 1
  apply Array.ext_getElem?
  intro j
  by_cases hj : j < N
  · have h1 := Jvm.Free.Multi.outerC_slot c N h0 N j hj
    rw [if_pos hj] at h1
    rw [h1, Array.getElem?_ofFn, dif_pos hj]
  · rw [Array.getElem?_eq_none (by rw [(Jvm.Free.Multi.outerC_facts c N h0 N).2.2]; omega), Array.getElem?_eq_none (by rw [Array.size_ofFn]; omega)]
/-- addresses behind a grid -/
def gd_ad (ad : Nat → Nat) (S : so_St) (h : Nat) : Nat → Nat := fun r => if r / 64 < S.1 then ad r else h + (r / 64 - S.1)
theorem gd_ks {S : so_St} {n m : Nat} (hs : ∀ i, S.2.2.1 i < 64) : ∀ i, (so_grid S n m).2.2.1 i < 64 := fun i => by
  show (if i = S.1 then 56 else if S.1 < i ∧ i ≤ S.1 + n then 50 else S.2.2.1 i) < 64
  by_cases h1 : i = S.1
  · rw [if_pos h1]; omega
  · rw [if_neg h1]
    by_cases h2 : S.1 < i ∧ i ≤ S.1 + n
    · rw [if_pos h2]; omega
    · rw [if_neg h2]; exact hs i
theorem gd_okrow {S : so_St} {n m j : Nat} (hj : j < n) : so_ok (so_grid S n m) (64 * (S.1 + 1 + j) + 50) := by
  have e1 : (64 * (S.1 + 1 + j) + 50) / 64 = S.1 + 1 + j := by omega
  have e2 : (64 * (S.1 + 1 + j) + 50) % 64 = 50 := by omega
  refine ⟨?_, ?_⟩
  · rw [e1]; show S.1 + 1 + j < S.1 + 1 + n; omega
  · rw [e1, e2]
    show (if S.1 + 1 + j = S.1 then 56 else if S.1 < S.1 + 1 + j ∧ S.1 + 1 + j ≤ S.1 + n then 50 else S.2.2.1 (S.1 + 1 + j)) = 50
    rw [if_neg (by omega), if_pos (by omega)]
theorem gd_okout {S : so_St} {n m : Nat} : so_ok (so_grid S n m) (64 * S.1 + 56) := by
  have e1 : (64 * S.1 + 56) / 64 = S.1 := by omega
  have e2 : (64 * S.1 + 56) % 64 = 56 := by omega
  refine ⟨?_, ?_⟩
  · rw [e1]; show S.1 < S.1 + 1 + n; omega
  · rw [e1, e2]
    show (if S.1 = S.1 then 56 else _) = 56
    rw [if_pos rfl]
theorem so_gk {a : Nat} : (64 * a + 56) % 64 ∈ [56] := by
  refine List.mem_singleton.mpr ?_
  omega
/-- the cells of a grid's store -/
theorem gd_old {S : so_St} {n m b : Nat} (hb : b / 64 < S.1) : (so_grid S n m).2.2.2 b = S.2.2.2 b := by
  show (if b = 64 * S.1 + 56 then _ else if b % 64 = 50 ∧ S.1 < b / 64 ∧ b / 64 ≤ S.1 + n then so_z m else S.2.2.2 b) = S.2.2.2 b
  rw [if_neg (by omega), if_neg (by omega)]
theorem gd_row {S : so_St} {n m j : Nat} (hj : j < n) : (so_grid S n m).2.2.2 (64 * (S.1 + 1 + j) + 50) = so_z m := by
  show (if 64 * (S.1 + 1 + j) + 50 = 64 * S.1 + 56 then _ else if (64 * (S.1 + 1 + j) + 50) % 64 = 50 ∧ S.1 < (64 * (S.1 + 1 + j) + 50) / 64 ∧ (64 * (S.1 + 1 + j) + 50) / 64 ≤ S.1 + n then so_z m else _) = so_z m
  rw [if_neg (by omega), if_pos (by omega)]
theorem gd_out {S : so_St} {n m : Nat} : (so_grid S n m).2.2.2 (64 * S.1 + 56) = (n, fun _ => 0, fun j => if j < n then some (64 * (S.1 + 1 + j) + 50) else none, fun _ => 0) := if_pos rfl
theorem gd_cell {S : so_St} {n m b : Nat} : (so_grid S n m).2.2.2 b = S.2.2.2 b ∨ (so_grid S n m).2.2.2 b = so_z m ∨ (so_grid S n m).2.2.2 b = (n, fun _ => 0, fun j => if j < n then some (64 * (S.1 + 1 + j) + 50) else none, fun _ => 0) := by
  show (if b = 64 * S.1 + 56 then _ else if b % 64 = 50 ∧ S.1 < b / 64 ∧ b / 64 ≤ S.1 + n then so_z m else S.2.2.2 b) = S.2.2.2 b ∨ _
  by_cases h1 : b = 64 * S.1 + 56
  · exact Or.inr (Or.inr (if_pos h1))
  · by_cases h2 : b % 64 = 50 ∧ S.1 < b / 64 ∧ b / 64 ≤ S.1 + n
    · exact Or.inr (Or.inl ((if_neg h1).trans (if_pos h2)))
    · exact Or.inl ((if_neg h1).trans (if_neg h2))
theorem gd_H {w : jw_W} {ad : Nat → Nat} {S : so_St} {H H1 : Heap} {n m : Nat} (h : jw_H w ad S H) (hA : jw_A w H.size) (f1 : H1.size = H.size + 1 + n) (f2 : H1[H.size]? = some (arrV (w.2.1 6) n (fun j => .ref (H.size + 1 + j)))) (fo : ∀ a : Nat, a < H.size → H1[a]? = H[a]?) (fi : ∀ j : Nat, j < n → H1[H.size + 1 + j]? = some (arrV (w.2.1 0) m (fun _ => .int 0))) : jw_H w (gd_ad ad S H.size) (so_grid S n m) H1 := by
  have ha : ∀ a, so_ok S a → gd_ad ad S H.size a = ad a := fun a ok => if_pos ok.1
  have key : ∀ (k : Nat) (q : Nat × va_E), (jw_L w (gd_ad ad S H.size) (so_grid S n m))[k]? = some q → ((jw_L w ad S)[k]? = some q ∧ q.1 < H.size) ∨ (44 + k = S.1 ∧ q = (H.size, .inl (w.2.1 6, n, .inr (.inr (.inr (.inr (fun j => if j < n then some (H.size + 1 + j) else none))))))) ∨ ∃ j, j < n ∧ 44 + k = S.1 + 1 + j ∧ q = (H.size + 1 + j, .inl (w.2.1 0, m, .inl (fun _ => 0))) := by
    intro k q hk
    have hlt : k < (so_grid S n m).1 - 44 := by
      have := (List.getElem?_eq_some_iff.mp hk).1
      simpa [jw_L] using this
    have hq : q = (gd_ad ad S H.size (jw_sa (so_grid S n m) (44 + k)), jw_E w (gd_ad ad S H.size) ((so_grid S n m).2.2.1 (44 + k)) ((so_grid S n m).2.2.2 (jw_sa (so_grid S n m) (44 + k)))) := by
      rw [jw_L, List.getElem?_map, List.getElem?_range hlt] at hk
      exact (Option.some.inj hk).symm
    have hlt : k < S.1 + 1 + n - 44 := hlt
    have h44 := h.1
    rcases Nat.lt_trichotomy (44 + k) S.1 with c | c | c
    · left
      have k1 : (so_grid S n m).2.2.1 (44 + k) = S.2.2.1 (44 + k) := by
        show (if 44 + k = S.1 then 56 else if S.1 < 44 + k ∧ 44 + k ≤ S.1 + n then 50 else S.2.2.1 (44 + k)) = _
        rw [if_neg (by omega), if_neg (by omega)]
      have k2 : jw_sa (so_grid S n m) (44 + k) = jw_sa S (44 + k) := by
        show 64 * (44 + k) + (so_grid S n m).2.2.1 (44 + k) = _
        rw [k1]; rfl
      have hs := h.ks (44 + k)
      have q1 : jw_sa S (44 + k) / 64 = 44 + k := by show (64 * (44 + k) + S.2.2.1 (44 + k)) / 64 = _; omega
      have ok : so_ok S (jw_sa S (44 + k)) := by
        refine ⟨by rw [q1]; exact c, ?_⟩
        rw [q1]
        show S.2.2.1 (44 + k) = (64 * (44 + k) + S.2.2.1 (44 + k)) % 64
        omega
      have hg := jw_L_get (w := w) (ad := ad) ok (by rw [q1]; omega)
      have e9 : jw_sa S (44 + k) / 64 - 44 = k := by rw [q1]; omega
      rw [e9] at hg
      have e8 : jw_sa S (44 + k) % 64 = S.2.2.1 (44 + k) := by rw [← ok.2, q1]
      rw [hq, k2, k1, ha _ ok, gd_old (by rw [q1]; exact c), jw_E_same (ad := ad) (fun j b hb => ha b (h.2.2.2.2.1 _ j b hb)), ← e8]
      exact ⟨hg, (h.2.1 _ _ hg).lt⟩
    · right; left
      refine ⟨c, ?_⟩
      have k1 : (so_grid S n m).2.2.1 (44 + k) = 56 := if_pos c
      have k2 : jw_sa (so_grid S n m) (44 + k) = 64 * S.1 + 56 := by
        show 64 * (44 + k) + (so_grid S n m).2.2.1 (44 + k) = _
        rw [k1, c]
      have k3 : gd_ad ad S H.size (64 * S.1 + 56) = H.size := by
        show (if (64 * S.1 + 56) / 64 < S.1 then _ else H.size + ((64 * S.1 + 56) / 64 - S.1)) = _
        rw [if_neg (by omega)]; omega
      rw [hq, k2, k1, k3, gd_out]
      show (H.size, (.inl (w.2.1 6, n, .inr (.inr (.inr (.inr (fun j => jw_cr w (gd_ad ad S H.size) (if j < n then some (64 * (S.1 + 1 + j) + 50) else none)))))) : va_E)) = _
      congr 8
      funext j
      by_cases hj : j < n
      · rw [if_pos hj, if_pos hj, jw_cr_n (by omega)]
        congr 1
        show (if (64 * (S.1 + 1 + j) + 50) / 64 < S.1 then _ else H.size + ((64 * (S.1 + 1 + j) + 50) / 64 - S.1)) = _
        rw [if_neg (by omega)]; omega
      · rw [if_neg hj, if_neg hj]; rfl
    · right; right
      refine ⟨44 + k - S.1 - 1, by omega, by omega, ?_⟩
      obtain ⟨j, hj⟩ : ∃ j, 44 + k = S.1 + 1 + j := ⟨44 + k - S.1 - 1, by omega⟩
      have hjn : j < n := by omega
      have e9 : 44 + k - S.1 - 1 = j := by omega
      have k1 : (so_grid S n m).2.2.1 (44 + k) = 50 := by
        show (if 44 + k = S.1 then 56 else if S.1 < 44 + k ∧ 44 + k ≤ S.1 + n then 50 else S.2.2.1 (44 + k)) = _
        rw [if_neg (by omega), if_pos (by omega)]
      have k2 : jw_sa (so_grid S n m) (44 + k) = 64 * (S.1 + 1 + j) + 50 := by
        show 64 * (44 + k) + (so_grid S n m).2.2.1 (44 + k) = _
        rw [k1, hj]
      have k3 : gd_ad ad S H.size (64 * (S.1 + 1 + j) + 50) = H.size + 1 + j := by
        show (if (64 * (S.1 + 1 + j) + 50) / 64 < S.1 then _ else H.size + ((64 * (S.1 + 1 + j) + 50) / 64 - S.1)) = _
        rw [if_neg (by omega)]; omega
      rw [hq, k2, k1, k3, gd_row hjn, e9]
      rfl
  refine ⟨?_, ?_, ⟨?_, ?_⟩, fun i hi => ?_, fun x j b g => ?_, fun x j g => ?_, fun x j g => ?_, gd_ks h.ks⟩
  · show 44 ≤ S.1 + 1 + n
    have := h.1
    omega
  · intro k q hk
    rcases key k q hk with ⟨g, glt⟩ | ⟨-, rfl⟩ | ⟨j, hj, -, rfl⟩
    · exact (h.2.1 k q g).kept (fo _ glt)
    · show H1[H.size]? = some (vp_cell _ _)
      rw [vp_cell_q, f2]
      congr 1
      unfold arrV
      congr 1
      apply Array.ext_getElem?
      intro j
      by_cases hj : j < n
      · rw [Array.getElem?_ofFn, dif_pos hj, Array.getElem?_ofFn, dif_pos hj]
        show some (Value.ref (H.size + 1 + j)) = some (va_rf (if j < n then some (H.size + 1 + j) else none))
        rw [if_pos hj]; rfl
      · rw [Array.getElem?_eq_none (by rw [Array.size_ofFn]; omega), Array.getElem?_eq_none (by rw [Array.size_ofFn]; omega)]
    · exact fi j hj
  · intro i j p q hp hq e
    rcases key i p hp with ⟨g1, l1⟩ | ⟨c1, rfl⟩ | ⟨j1, hj1, c1, rfl⟩ <;> rcases key j q hq with ⟨g2, l2⟩ | ⟨c2, rfl⟩ | ⟨j2, hj2, c2, rfl⟩
    · exact h.2.2.1.1 i j p q g1 g2 e
    · simp only at e; omega
    · simp only at e; omega
    · simp only at e; omega
    · omega
    · simp only at e; omega
    · simp only at e; omega
    · simp only at e; omega
    · simp only at e; omega
  · intro k q hk
    rcases key k q hk with ⟨g, glt⟩ | ⟨-, rfl⟩ | ⟨j, hj, -, rfl⟩
    · exact h.2.2.1.2 k q g
    · exact hA
    · show w.2.2.1 ≤ H.size + 1 + j
      have : w.2.2.1 ≤ H.size := hA
      omega
  · have hi' : i < S.1 := Nat.lt_of_lt_of_le hi h.1
    have hk0 : jw_k0 i < 64 := by rcases jw_k0_cases i with g | g | g <;> omega
    refine ⟨?_, ?_⟩
    · rw [(so_Ext.grid S n m).2.2 i hi']
      exact (h.2.2.2.1 i hi).1
    · rw [gd_old (by omega)]
      exact (h.2.2.2.1 i hi).2
  · have g : ((so_grid S n m).2.2.2 x).2.2.1 j = some b := g
    rcases gd_cell (S := S) (n := n) (m := m) (b := x) with e | e | e
    · rw [e] at g
      exact (h.2.2.2.2.1 x j b g).ext (so_Ext.grid S n m)
    · rw [e] at g; cases g
    · rw [e] at g
      have g : (if j < n then some (64 * (S.1 + 1 + j) + 50) else none) = some b := g
      by_cases hj : j < n
      · rw [if_pos hj] at g
        cases g
        exact gd_okrow hj
      · rw [if_neg hj] at g; cases g
  · show fits .byte (.int (((so_grid S n m).2.2.2 x).2.1 j)) = true
    rcases gd_cell (S := S) (n := n) (m := m) (b := x) with e | e | e
    · rw [e]; exact h.2.2.2.2.2.1 x j g
    · rw [e]; rfl
    · rw [e]; rfl
  · show fits .boolean (.int (((so_grid S n m).2.2.2 x).2.1 j)) = true
    rcases gd_cell (S := S) (n := n) (m := m) (b := x) with e | e | e
    · rw [e]; exact h.2.2.2.2.2.2.1 x j g
    · rw [e]; rfl
    · rw [e]; rfl
section GD
variable {T : jx_T} {K : jx_K} {pc : Nat} {lv lv' : List (Nat × Value)} {st st' : List Value} {S S1 : so_St}
theorem jr_grid {idx n m : Nat} {x y : Int32} (hcl : Cond.classLink K.2.2.1 idx "[[I" ∈ lw_all) (hao : Cond.arrayOver (.array .int) ∈ lw_tbl) (hac : Cond.arrayClass .int ∈ lw_all) (hx0 : ¬ x < 0) (hy0 : ¬ y < 0) (hx : x.toNatClampNeg = n) (hy : y.toNatClampNeg = m) (hn : n ≤ 100000) (hm : m ≤ 100000)
    (hd : decode K.1 pc = .ok (.multianewarray idx 2, 4)) (k9 : jg_ T K (pc + 4) lv (.ref (64 * S.1 + 56) :: st) (so_grid S n m)) : jg_ T K pc lv (.int y :: .int x :: st) S := by
  subst hx
  subst hy
  refine ⟨(so_Ext.grid S _ _).tr k9.1, fun z hC ad H locs ls kk u h => ?_⟩
  have x1 : S.1 + 1 + x.toNatClampNeg ≤ T.2.1.1 := k9.1.1
  have x2 : S.2.1 + x.toNatClampNeg + x.toNatClampNeg * y.toNatClampNeg ≤ T.2.1.2.1 := k9.1.2.1
  have x3 : kk + T.1.1 = S.1 := h.2.2.2.2.2.2.1
  have x4 : u + T.1.2.1 = S.2.1 := h.2.2.2.2.2.2.2.1
  have hs1 : kk + (1 + x.toNatClampNeg) ≤ (jx_R z).cells := by rw [hC.R]; show _ ≤ T.2.1.1 - T.1.1; omega
  have hs2 : u + (x.toNatClampNeg + x.toNatClampNeg * y.toNatClampNeg) ≤ (jx_R z).slots := by rw [hC.R]; show _ ≤ T.2.1.2.1 - T.1.2.1; omega
  intro U hU X
  subst hU
  obtain ⟨vm₁, cA, comp, hW1, hfA, hfC, -, -, X1, step⟩ := X.multianewarray2F hC.x (own := K.2.2.1) (index := idx) (ty := .int) hC.o (hC.t _ hcl) (jw_ao rfl (hC.U.2.1 _ hao rfl)) (hC.t _ hac)
    (g := F0 (jx_m z) pc ls (.int y :: .int x :: st.map (jw_v (jx_w z) ad))) rfl (by rw [hC.b]; exact hd) (n := x) (k := y) (rest := st.map (jw_v (jx_w z) ad)) rfl hx0 hy0 (by omega) (by show y.toNatClampNeg * 4 ≤ _; omega) (by omega) rfl rfl hs1 hs2
  have cA' : cA = (jx_w z).2.1 6 := Option.some.inj (hfA.symm.trans (hC.U.1.2 6 _ rfl).2)
  have comp' : comp = (jx_w z).2.1 0 := Option.some.inj (hfC.symm.trans (hC.U.1.2 0 _ rfl).2)
  subst cA'
  subst comp'
  obtain ⟨f1, f2, f3, f4⟩ := Jvm.Free.Multi.fill_facts (U.setVm vm₁) ((jx_w z).2.1 6) ((jx_w z).2.1 0) x.toNatClampNeg y.toNatClampNeg (defaultValue .int) x.toNatClampNeg
  have fo := fun (a : Addr) (ha : a < U.heap.size) => Jvm.Free.Multi.fill_old (U.setVm vm₁) ((jx_w z).2.1 6) ((jx_w z).2.1 0) x.toNatClampNeg y.toNatClampNeg (defaultValue .int) (a := a) ha x.toNatClampNeg
  have fi := fun (j : Nat) (hj : j < x.toNatClampNeg) => Jvm.Free.Multi.fill_inner (U.setVm vm₁) ((jx_w z).2.1 6) ((jx_w z).2.1 0) x.toNatClampNeg y.toNatClampNeg (defaultValue .int) x.toNatClampNeg j hj
  generalize Jvm.Free.Multi.fill (U.setVm vm₁) ((jx_w z).2.1 6) ((jx_w z).2.1 0) x.toNatClampNeg y.toNatClampNeg (defaultValue .int) x.toNatClampNeg = V at X1 step f1 f2 f3 f4 fo fi
  have f1 : V.heap.size = U.heap.size + 1 + x.toNatClampNeg := f1
  have f2 : V.heap[U.heap.size]? = some (arrV ((jx_w z).2.1 6) x.toNatClampNeg (fun j => .ref (U.heap.size + 1 + j))) := f2.trans (by rw [← gd_outer]; rfl)
  have fi : ∀ j : Nat, j < x.toNatClampNeg → V.heap[U.heap.size + 1 + j]? = some (arrV ((jx_w z).2.1 0) y.toNatClampNeg (fun _ => .int 0)) := fun j hj => (fi j hj).trans (by rw [← arrV_new]; rfl)
  have hH := gd_H h.1 (hC.A _ h.hs.1) f1 f2 fo fi
  have ha : ∀ a, so_ok S a → gd_ad ad S U.heap.size a = ad a := fun a ok => if_pos ok.1
  have hS : va_S (jw_A (jx_w z)) (jx_s z).heap V.heap locs := ⟨Nat.le_trans h.hs.1 (by omega), fun q h1 h2 => (fo q (Nat.lt_of_lt_of_le h1 h.hs.1)).trans (h.hs.2.1 q h1 h2), h.hs.2.2⟩
  have hkk := k9.2 z hC (gd_ad ad S U.heap.size) V.heap locs ls (kk + 1 + x.toNatClampNeg) (u + x.toNatClampNeg + x.toNatClampNeg * y.toNatClampNeg) (h.new (so_Ext.grid S _ _) hH ha hS (jo_c (jo_r gd_okout) (h.os.t.t.ext (so_Ext.grid S _ _))) (by show kk + 1 + _ + T.1.1 = S.1 + 1 + _; omega) (by show u + _ + _ + T.1.2.1 = S.2.1 + _ + _; omega))
  have e0 : jw_v (jx_w z) (gd_ad ad S U.heap.size) (.ref (64 * S.1 + 56)) = .ref U.heap.size := by
    rw [jw_v_n (by omega)]
    show Value.ref (if (64 * S.1 + 56) / 64 < S.1 then _ else U.heap.size + ((64 * S.1 + 56) / 64 - S.1)) = _
    have e1 : (64 * S.1 + 56) / 64 = S.1 := by omega
    rw [if_neg (by omega), e1, Nat.sub_self, Nat.add_zero]
  rw [List.map_cons, e0, jm_map h.os.t.t ha] at hkk
  obtain ⟨t, a1, b1⟩ := hkk V rfl X1
  exact ⟨t, step t a1, b1⟩
end GD
