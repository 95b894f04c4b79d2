/-! BASE D: locals, fields, arrays, new cells -/
set_option maxRecDepth 100000
def jl_ : List (Nat × Value) → Nat → Option Value
  | [], _ => none
  | q :: t, i => cond (Nat.beq q.1 i) (some q.2) (jl_ t i)
theorem jl_mem {lv : List (Nat × Value)} {i : Nat} {v : Value} (h : jl_ lv i = some v) : (i, v) ∈ lv := by
  induction lv with
  | nil => cases h
  | cons q t ih =>
    have h : cond (Nat.beq q.1 i) (some q.2) (jl_ t i) = some v := h
    cases hb : Nat.beq q.1 i with
    | true =>
      rw [hb] at h
      have e1 : q.1 = i := Nat.eq_of_beq_eq_true hb
      have e2 : q.2 = v := Option.some.inj h
      rw [← e1, ← e2]
      exact List.mem_cons_self
    | false =>
      rw [hb] at h
      exact List.mem_cons_of_mem _ (ih h)
/-- a local gets a value (of one word) -/
def jp_ (i : Nat) (v : Value) : List (Nat × Value) → List (Nat × Value)
  | [] => [(i, v)]
  | q :: t => cond (Nat.blt q.1 i) (cond (Nat.beq (q.1 + 1) i && Nat.beq q.2.category 2) (jp_ i v t) (q :: jp_ i v t)) ((i, v) :: (q :: t).filter (fun x => !Nat.beq x.1 i && !(Nat.beq (x.1 + 1) i && Nat.beq x.2.category 2)))
def jp2_ (i : Nat) (v : Value) : List (Nat × Value) → List (Nat × Value)
  | [] => [(i, v)]
  | q :: t => cond (Nat.blt q.1 i) (cond (Nat.beq (q.1 + 1) i && Nat.beq q.2.category 2) (jp2_ i v t) (q :: jp2_ i v t)) ((i, v) :: (q :: t).filter (fun x => !Nat.beq x.1 i && (!Nat.beq x.1 (i + 1) && !(Nat.beq (x.1 + 1) i && Nat.beq x.2.category 2))))
theorem jp_mem {i : Nat} {v : Value} {lv : List (Nat × Value)} {x : Nat × Value} (h : x ∈ jp_ i v lv) : x = (i, v) ∨ (x ∈ lv ∧ ¬ x.1 = i ∧ ¬ (x.1 + 1 = i ∧ x.2.category = 2)) := by
  induction lv with
  | nil => exact Or.inl (List.mem_singleton.mp h)
  | cons q t ih =>
    have h : x ∈ cond (Nat.blt q.1 i) (cond (Nat.beq (q.1 + 1) i && Nat.beq q.2.category 2) (jp_ i v t) (q :: jp_ i v t)) ((i, v) :: (q :: t).filter (fun x => !Nat.beq x.1 i && !(Nat.beq (x.1 + 1) i && Nat.beq x.2.category 2))) := h
    have up : (x = (i, v) ∨ (x ∈ t ∧ ¬ x.1 = i ∧ ¬ (x.1 + 1 = i ∧ x.2.category = 2))) → (x = (i, v) ∨ (x ∈ q :: t ∧ ¬ x.1 = i ∧ ¬ (x.1 + 1 = i ∧ x.2.category = 2))) := fun g => g.elim Or.inl (fun g => Or.inr ⟨List.mem_cons_of_mem _ g.1, g.2⟩)
    cases hb : Nat.blt q.1 i with
    | true =>
      rw [hb] at h
      have hlt : q.1 < i := Nat.le_of_ble_eq_true hb
      cases hc : (Nat.beq (q.1 + 1) i && Nat.beq q.2.category 2) with
      | true =>
        rw [hc] at h
        exact up (ih h)
      | false =>
        rw [hc] at h
        rcases List.mem_cons.mp h with e | e
        · subst e
          refine Or.inr ⟨List.mem_cons_self, by omega, fun g => ?_⟩
          have b1 : Nat.beq (x.1 + 1) i = true := by rw [g.1]; exact Nat.beq_refl i
          have b2 : Nat.beq x.2.category 2 = true := by rw [g.2]; rfl
          rw [b1, b2] at hc
          cases hc
        · exact up (ih e)
    | false =>
      rw [hb] at h
      rcases List.mem_cons.mp h with e | e
      · exact Or.inl e
      · obtain ⟨e1, e2⟩ := List.mem_filter.mp e
        simp only [Bool.and_eq_true, Bool.not_eq_true', Bool.and_eq_false_iff] at e2
        refine Or.inr ⟨e1, fun g => ?_, fun g => ?_⟩
        · rw [g, Nat.beq_refl] at e2
          cases e2.1
        · rcases e2.2 with e3 | e3
          · rw [g.1, Nat.beq_refl] at e3
            cases e3
          · rw [g.2] at e3
            cases e3
theorem jp2_mem {i : Nat} {v : Value} {lv : List (Nat × Value)} (hs : lv.Pairwise (fun a b => a.1 < b.1)) {x : Nat × Value} (h : x ∈ jp2_ i v lv) : x = (i, v) ∨ (x ∈ lv ∧ ¬ x.1 = i ∧ ¬ x.1 = i + 1 ∧ ¬ (x.1 + 1 = i ∧ x.2.category = 2)) := by
  induction lv with
  | nil => exact Or.inl (List.mem_singleton.mp h)
  | cons q t ih =>
    have h : x ∈ cond (Nat.blt q.1 i) (cond (Nat.beq (q.1 + 1) i && Nat.beq q.2.category 2) (jp2_ i v t) (q :: jp2_ i v t)) ((i, v) :: (q :: t).filter (fun x => !Nat.beq x.1 i && (!Nat.beq x.1 (i + 1) && !(Nat.beq (x.1 + 1) i && Nat.beq x.2.category 2)))) := h
    have up : (x = (i, v) ∨ (x ∈ t ∧ ¬ x.1 = i ∧ ¬ x.1 = i + 1 ∧ ¬ (x.1 + 1 = i ∧ x.2.category = 2))) → (x = (i, v) ∨ (x ∈ q :: t ∧ ¬ x.1 = i ∧ ¬ x.1 = i + 1 ∧ ¬ (x.1 + 1 = i ∧ x.2.category = 2))) := fun g => g.elim Or.inl (fun g => Or.inr ⟨List.mem_cons_of_mem _ g.1, g.2⟩)
    have ht := (List.pairwise_cons.mp hs).2
    cases hb : Nat.blt q.1 i with
    | true =>
      rw [hb] at h
      have hlt : q.1 < i := Nat.le_of_ble_eq_true hb
      cases hc : (Nat.beq (q.1 + 1) i && Nat.beq q.2.category 2) with
      | true =>
        rw [hc] at h
        exact up (ih ht h)
      | false =>
        rw [hc] at h
        rcases List.mem_cons.mp h with e | e
        · subst e
          refine Or.inr ⟨List.mem_cons_self, by omega, by omega, fun g => ?_⟩
          have b1 : Nat.beq (x.1 + 1) i = true := by rw [g.1]; exact Nat.beq_refl i
          have b2 : Nat.beq x.2.category 2 = true := by rw [g.2]; rfl
          rw [b1, b2] at hc
          cases hc
        · exact up (ih ht e)
    | false =>
      rw [hb] at h
      rcases List.mem_cons.mp h with e | e
      · exact Or.inl e
      · obtain ⟨e1, e2⟩ := List.mem_filter.mp e
        simp only [Bool.and_eq_true, Bool.not_eq_true', Bool.and_eq_false_iff] at e2
        refine Or.inr ⟨e1, fun g => ?_, fun g => ?_, fun g => ?_⟩
        · rw [g, Nat.beq_refl] at e2
          cases e2.1
        · have e3 := e2.2.1
          rw [g, Nat.beq_refl] at e3
          cases e3
        · rcases e2.2.2 with e3 | e3
          · rw [g.1, Nat.beq_refl] at e3
            cases e3
          · rw [g.2] at e3
            cases e3
section JM
variable {z : jx_Z} {T : jx_T} {K : jx_K} {pc : Nat} {lv lv' : List (Nat × Value)} {st st' : List Value} {S S1 : so_St}
theorem jm_at {w : jw_W} {ad : Nat → Nat} {ls : Array Slot} {i : Nat} {v : Value} (h : lv_has ls K.2.1 (lv.map (jw_lv w ad))) (hl : jl_ lv i = some v) : ls[i]? = some (.val (jw_v w ad v)) := h.2.2 (i, jw_v w ad v) (List.mem_map.mpr ⟨(i, v), jl_mem hl, rfl⟩)
theorem jm_put {w : jw_W} {ad : Nat → Nat} {ls : Array Slot} {i : Nat} {v : Value} (h : lv_has ls K.2.1 ((i, jw_v w ad v) :: (lv.map (jw_lv w ad)).filter (fun q => !(q.1 == i) && !(q.1 + 1 == i && q.2.category == 2)))) (hl : jp_ i v lv = lv') : lv_has ls K.2.1 (lv'.map (jw_lv w ad)) := by
  refine ⟨h.1, h.2.1, fun q hq => ?_⟩
  obtain ⟨x, hx, rfl⟩ := List.mem_map.mp hq
  rw [← hl] at hx
  rcases jp_mem hx with e | ⟨e1, e2, e3⟩
  · rw [e]
    exact h.2.2 _ List.mem_cons_self
  · refine h.2.2 _ (List.mem_cons_of_mem _ (List.mem_filter.mpr ⟨List.mem_map.mpr ⟨x, e1, rfl⟩, ?_⟩))
    have c1 : (x.1 == i) = false := by simp [e2]
    show (!(x.1 == i) && !(x.1 + 1 == i && (jw_v w ad x.2).category == 2)) = true
    rw [c1, jw_v_cat]
    by_cases g : x.1 + 1 = i
    · have : ¬ x.2.category = 2 := fun g2 => e3 ⟨g, g2⟩
      simp [g, this]
    · simp [g]
theorem jm_put2 {w : jw_W} {ad : Nat → Nat} {ls : Array Slot} {i : Nat} {v : Value} (hs : lv.Pairwise (fun a b => a.1 < b.1)) (h : lv_has ls K.2.1 ((i, jw_v w ad v) :: (lv.map (jw_lv w ad)).filter (fun q => !(q.1 == i) && (!(q.1 == i + 1) && !(q.1 + 1 == i && q.2.category == 2))))) (hl : jp2_ i v lv = lv') : lv_has ls K.2.1 (lv'.map (jw_lv w ad)) := by
  refine ⟨h.1, h.2.1, fun q hq => ?_⟩
  obtain ⟨x, hx, rfl⟩ := List.mem_map.mp hq
  rw [← hl] at hx
  rcases jp2_mem hs hx with e | ⟨e1, e2, e4, e3⟩
  · rw [e]
    exact h.2.2 _ List.mem_cons_self
  · refine h.2.2 _ (List.mem_cons_of_mem _ (List.mem_filter.mpr ⟨List.mem_map.mpr ⟨x, e1, rfl⟩, ?_⟩))
    have c1 : (x.1 == i) = false := by simp [e2]
    have c2 : (x.1 == i + 1) = false := by simp [e4]
    show (!(x.1 == i) && (!(x.1 == i + 1) && !(x.1 + 1 == i && (jw_v w ad x.2).category == 2))) = true
    rw [c1, c2, jw_v_cat]
    by_cases g : x.1 + 1 = i
    · have : ¬ x.2.category = 2 := fun g2 => e3 ⟨g, g2⟩
      simp [g, this]
    · simp [g]
theorem jm_ol {i : Nat} {v : Value} (h : jo_lv S lv) (hv : jo_v S v) (hl : jp_ i v lv = lv') : jo_lv S lv' := fun q hq => by
  rw [← hl] at hq
  rcases jp_mem hq with e | ⟨e1, -⟩
  · rw [e]
    exact hv
  · exact h q e1
theorem jg_in.ml {ad : Nat → Nat} {H : Heap} {locs : List Loc} {ls ls' : Array Slot} {k u : Nat} (h : jg_in z T K.2.1 lv st S ad H locs ls k u) (h1 : lv_has ls' K.2.1 (lv'.map (jw_lv (jx_w z) ad))) (h2 : jo_lv S lv') (h3 : jo_s S st') : jg_in z T K.2.1 lv' st' S ad H locs ls' k u := ⟨h.1, h.2.1, h.2.2.1, h1, h2, h3, h.2.2.2.2.2.2⟩
/-- fewer locals -/
theorem jr_sub (ks : List Nat) (hl : lv_pick lv ks = lv') (k : jg_ T K pc lv' st S) : jg_ T K pc lv st S := by
  refine ⟨k.1, fun z hC ad H locs ls k9 u h => k.2 z hC ad H locs ls k9 u (h.ml ⟨h.hl.1, h.hl.2.1, fun q hq => ?_⟩ (fun q hq => ?_) h.os)⟩
  · obtain ⟨x, hx, rfl⟩ := List.mem_map.mp hq
    subst hl
    obtain ⟨i, -, hi⟩ := List.mem_filterMap.mp hx
    exact h.hl.2.2 _ (List.mem_map.mpr ⟨x, List.mem_of_getElem? hi, rfl⟩)
  · subst hl
    obtain ⟨i, -, hi⟩ := List.mem_filterMap.mp hq
    exact h.ol q (List.mem_of_getElem? hi)
theorem jr_iload_n {k : Fin 4} {i : Nat} {x : Int32} (hd : decode K.1 pc = .ok (.iload_n k, 1)) (hi : (k : Nat) = i) (hl : jl_ lv i = some (.int x)) (k : jg_ T K (pc + 1) lv (.int x :: st) S) : jg_ T K pc lv st S :=
  ⟨k.1, fun z hC ad H locs ls k9 u h => lv_iload_n hC.x hC.b hd hi (jm_at h.hl hl) (k.2 z hC ad H locs ls k9 u (h.mv (jo_c jo_i h.os)))⟩
theorem jr_iload {i : Nat} {x : Int32} (hd : decode K.1 pc = .ok (.iload i, 2)) (hl : jl_ lv i = some (.int x)) (k : jg_ T K (pc + 2) lv (.int x :: st) S) : jg_ T K pc lv st S :=
  ⟨k.1, fun z hC ad H locs ls k9 u h => lv_iload hC.x hC.b hd (jm_at h.hl hl) (k.2 z hC ad H locs ls k9 u (h.mv (jo_c jo_i h.os)))⟩
theorem jr_lload_n {k : Fin 4} {i : Nat} {x : Int64} (hd : decode K.1 pc = .ok (.lload_n k, 1)) (hi : (k : Nat) = i) (hl : jl_ lv i = some (.long x)) (k : jg_ T K (pc + 1) lv (.long x :: st) S) : jg_ T K pc lv st S :=
  ⟨k.1, fun z hC ad H locs ls k9 u h => lv_lload_n hC.x hC.b hd hi (jm_at h.hl hl) (k.2 z hC ad H locs ls k9 u (h.mv (jo_c jo_l h.os)))⟩
theorem jr_lload {i : Nat} {x : Int64} (hd : decode K.1 pc = .ok (.lload i, 2)) (hl : jl_ lv i = some (.long x)) (k : jg_ T K (pc + 2) lv (.long x :: st) S) : jg_ T K pc lv st S :=
  ⟨k.1, fun z hC ad H locs ls k9 u h => lv_lload hC.x hC.b hd (jm_at h.hl hl) (k.2 z hC ad H locs ls k9 u (h.mv (jo_c jo_l h.os)))⟩
/-- a reference or null -/
def jv_r (v : Value) : Prop := v = .null ∨ ∃ a, v = .ref a
theorem jv_rr {a : Nat} : jv_r (.ref a) := Or.inr ⟨a, rfl⟩
theorem jv_rn : jv_r .null := Or.inl rfl
theorem jv_rf {r : Option Nat} : jv_r (va_rf r) := va_rf_or r
theorem jv_cr {w : jw_W} {ad : Nat → Nat} {v : Value} (h : jv_r v) : jw_v w ad v = .null ∨ ∃ a, jw_v w ad v = .ref a := by
  rcases h with rfl | ⟨a, rfl⟩
  · exact Or.inl rfl
  · exact va_rf_or _
theorem jv_cat {v : Value} (h : jv_r v) : v.category = 1 := by
  rcases h with rfl | ⟨a, rfl⟩ <;> rfl
theorem jr_aload_n {k : Fin 4} {i : Nat} {v : Value} (hd : decode K.1 pc = .ok (.aload_n k, 1)) (hi : (k : Nat) = i) (hl : jl_ lv i = some v) (hv : jv_r v) (k : jg_ T K (pc + 1) lv (v :: st) S) : jg_ T K pc lv st S := by
  refine ⟨k.1, fun z hC ad H locs ls k9 u h => ?_⟩
  have hk := k.2 z hC ad H locs ls k9 u (h.mv (jo_c (h.ol (i, v) (jl_mem hl)) h.os))
  have hx := jm_at h.hl hl
  have hk : jx_W z H locs k9 u (jx_Q z T) (F0 (jx_m z) (pc + 1) ls (jw_v (jx_w z) ad v :: st.map (jw_v (jx_w z) ad))) := hk
  rcases jv_cr (w := jx_w z) (ad := ad) hv with e | ⟨a, e⟩
  · rw [e] at hx hk
    exact lv_aload_nN hC.x hC.b hd hi hx hk
  · rw [e] at hx hk
    exact lv_aload_n hC.x hC.b hd hi hx hk
theorem jr_aload {i : Nat} {v : Value} (hd : decode K.1 pc = .ok (.aload i, 2)) (hl : jl_ lv i = some v) (hv : jv_r v) (k : jg_ T K (pc + 2) lv (v :: st) S) : jg_ T K pc lv st S := by
  refine ⟨k.1, fun z hC ad H locs ls k9 u h => ?_⟩
  have hk := k.2 z hC ad H locs ls k9 u (h.mv (jo_c (h.ol (i, v) (jl_mem hl)) h.os))
  have hx := jm_at h.hl hl
  have hk : jx_W z H locs k9 u (jx_Q z T) (F0 (jx_m z) (pc + 2) ls (jw_v (jx_w z) ad v :: st.map (jw_v (jx_w z) ad))) := hk
  rcases jv_cr (w := jx_w z) (ad := ad) hv with e | ⟨a, e⟩
  · rw [e] at hx hk
    exact lv_aloadN hC.x hC.b hd hx hk
  · rw [e] at hx hk
    exact lv_aload hC.x hC.b hd hx hk
theorem jr_istore_n {k : Fin 4} {i : Nat} {x : Int32} (hd : decode K.1 pc = .ok (.istore_n k, 1)) (hi : (k : Nat) = i) (hn : i < K.2.1) (hl : jp_ i (.int x) lv = lv') (k : jg_ T K (pc + 1) lv' st S) : jg_ T K pc lv (.int x :: st) S :=
  ⟨k.1, fun z hC ad H locs ls k9 u h => lv_istore_n hC.x hC.b hd hi h.hl hn rfl (fun ls' h' => k.2 z hC ad H locs ls' k9 u (h.ml (jm_put (v := .int x) h' hl) (jm_ol h.ol jo_i hl) h.os.t))⟩
theorem jr_istore {i : Nat} {x : Int32} (hd : decode K.1 pc = .ok (.istore i, 2)) (hn : i < K.2.1) (hl : jp_ i (.int x) lv = lv') (k : jg_ T K (pc + 2) lv' st S) : jg_ T K pc lv (.int x :: st) S :=
  ⟨k.1, fun z hC ad H locs ls k9 u h => lv_istore hC.x hC.b hd h.hl hn rfl (fun ls' h' => k.2 z hC ad H locs ls' k9 u (h.ml (jm_put (v := .int x) h' hl) (jm_ol h.ol jo_i hl) h.os.t))⟩
theorem jr_iinc {i : Nat} {n : Int} {x v : Int32} (hd : decode K.1 pc = .ok (.iinc i n, 3)) (hx : jl_ lv i = some (.int x)) (hv : x + Int32.ofInt n = v) (hn : i < K.2.1) (hl : jp_ i (.int v) lv = lv') (k : jg_ T K (pc + 3) lv' st S) : jg_ T K pc lv st S := by
  refine ⟨k.1, fun z hC ad H locs ls k9 u h => ?_⟩
  obtain ⟨j, hj⟩ := List.getElem?_of_mem (List.mem_map.mpr ⟨(i, .int x), jl_mem hx, rfl⟩ : jw_lv (jx_w z) ad (i, .int x) ∈ lv.map (jw_lv (jx_w z) ad))
  exact lv_iinc hC.x hC.b hd h.hl hj hv hn rfl (fun ls' h' => k.2 z hC ad H locs ls' k9 u (h.ml (jm_put (v := .int v) h' hl) (jm_ol h.ol jo_i hl) h.os))
theorem jr_astore_n {k : Fin 4} {i : Nat} {v : Value} (hd : decode K.1 pc = .ok (.astore_n k, 1)) (hi : (k : Nat) = i) (hn : i < K.2.1) (hv : jv_r v) (hl : jp_ i v lv = lv') (k : jg_ T K (pc + 1) lv' st S) : jg_ T K pc lv (v :: st) S := by
  refine ⟨k.1, fun z hC ad H locs ls k9 u h => ?_⟩
  have hk : ∀ ls' : Array Slot, lv_has ls' K.2.1 ((i, jw_v (jx_w z) ad v) :: (lv.map (jw_lv (jx_w z) ad)).filter (fun q => !(q.1 == i) && !(q.1 + 1 == i && q.2.category == 2))) → _ := fun ls' h' => k.2 z hC ad H locs ls' k9 u (h.ml (jm_put (v := v) h' hl) (jm_ol h.ol h.os.h hl) h.os.t)
  show jx_W z H locs k9 u (jx_Q z T) (F0 (jx_m z) pc ls (jw_v (jx_w z) ad v :: st.map (jw_v (jx_w z) ad)))
  rcases jv_cr (w := jx_w z) (ad := ad) hv with e | ⟨a, e⟩
  · rw [e] at hk ⊢
    exact lv_astore_nN hC.x hC.b hd hi h.hl hn rfl hk
  · rw [e] at hk ⊢
    exact lv_astore_n hC.x hC.b hd hi h.hl hn rfl hk
theorem jr_astore {i : Nat} {v : Value} (hd : decode K.1 pc = .ok (.astore i, 2)) (hn : i < K.2.1) (hv : jv_r v) (hl : jp_ i v lv = lv') (k : jg_ T K (pc + 2) lv' st S) : jg_ T K pc lv (v :: st) S := by
  refine ⟨k.1, fun z hC ad H locs ls k9 u h => ?_⟩
  have hk : ∀ ls' : Array Slot, lv_has ls' K.2.1 ((i, jw_v (jx_w z) ad v) :: (lv.map (jw_lv (jx_w z) ad)).filter (fun q => !(q.1 == i) && !(q.1 + 1 == i && q.2.category == 2))) → _ := fun ls' h' => k.2 z hC ad H locs ls' k9 u (h.ml (jm_put (v := v) h' hl) (jm_ol h.ol h.os.h hl) h.os.t)
  show jx_W z H locs k9 u (jx_Q z T) (F0 (jx_m z) pc ls (jw_v (jx_w z) ad v :: st.map (jw_v (jx_w z) ad)))
  rcases jv_cr (w := jx_w z) (ad := ad) hv with e | ⟨a, e⟩
  · rw [e] at hk ⊢
    exact lv_astoreN hC.x hC.b hd h.hl hn rfl hk
  · rw [e] at hk ⊢
    exact lv_astore hC.x hC.b hd h.hl hn rfl hk
theorem jm_ol2 {i : Nat} {v : Value} (hs : lv.Pairwise (fun a b => a.1 < b.1)) (h : jo_lv S lv) (hv : jo_v S v) (hl : jp2_ i v lv = lv') : jo_lv S lv' := fun q hq => by
  rw [← hl] at hq
  rcases jp2_mem hs hq with e | ⟨e1, -⟩
  · rw [e]
    exact hv
  · exact h q e1
/-- sorted by place -/
def jp_so : List (Nat × Value) → Bool
  | [] => true
  | q :: t => t.all (fun x => Nat.blt q.1 x.1) && jp_so t
theorem jp_so_p {lv : List (Nat × Value)} (h : jp_so lv = true) : lv.Pairwise (fun a b => a.1 < b.1) := by
  induction lv with
  | nil => exact List.Pairwise.nil
  | cons q t ih =>
    have h : (t.all (fun x => Nat.blt q.1 x.1) && jp_so t) = true := h
    rw [Bool.and_eq_true] at h
    exact List.Pairwise.cons (fun x hx => Nat.le_of_ble_eq_true (List.all_eq_true.mp h.1 x hx)) (ih h.2)
theorem jr_lstore_n {k : Fin 4} {i : Nat} {x : Int64} (hd : decode K.1 pc = .ok (.lstore_n k, 1)) (hi : (k : Nat) = i) (hn : i + 1 < K.2.1) (hs : jp_so lv = true) (hl : jp2_ i (.long x) lv = lv') (k : jg_ T K (pc + 1) lv' st S) : jg_ T K pc lv (.long x :: st) S :=
  ⟨k.1, fun z hC ad H locs ls k9 u h => lv_lstore_n hC.x hC.b hd hi h.hl hn rfl (fun ls' h' => k.2 z hC ad H locs ls' k9 u (h.ml (jm_put2 (v := .long x) (jp_so_p hs) h' hl) (jm_ol2 (jp_so_p hs) h.ol jo_l hl) h.os.t))⟩
theorem jr_lstore {i : Nat} {x : Int64} (hd : decode K.1 pc = .ok (.lstore i, 2)) (hn : i + 1 < K.2.1) (hs : jp_so lv = true) (hl : jp2_ i (.long x) lv = lv') (k : jg_ T K (pc + 2) lv' st S) : jg_ T K pc lv (.long x :: st) S :=
  ⟨k.1, fun z hC ad H locs ls k9 u h => lv_lstore hC.x hC.b hd h.hl hn rfl (fun ls' h' => k.2 z hC ad H locs ls' k9 u (h.ml (jm_put2 (v := .long x) (jp_so_p hs) h' hl) (jm_ol2 (jp_so_p hs) h.ol jo_l hl) h.os.t))⟩
end JM
