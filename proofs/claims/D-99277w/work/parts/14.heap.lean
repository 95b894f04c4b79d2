/-! BASE E: fields, arrays, new cells -/
set_option maxRecDepth 100000
theorem jw_k0_cases (i : Nat) : jw_k0 i = 63 ∨ jw_k0 i = 26 ∨ jw_k0 i = 51 := by
  unfold jw_k0
  by_cases h : i < 2 ∨ 42 ≤ i
  · rw [if_pos h]; exact Or.inl rfl
  · rw [if_neg h]
    by_cases h2 : i % 2 = 0
    · rw [if_pos h2]; exact Or.inr (Or.inl rfl)
    · rw [if_neg h2]; exact Or.inr (Or.inr rfl)
theorem jw_H.big {w : jw_W} {ad : Nat → Nat} {S : so_St} {H : Heap} {a : Nat} (h : jw_H w ad S H) (ok : so_ok S a) (h1 : a % 64 ≠ 63) (h2 : a % 64 ≠ 26) (h3 : a % 64 ≠ 51) : 44 ≤ a / 64 := by
  rcases Nat.lt_or_ge (a / 64) 44 with q | q
  · have e := (h.2.2.2.1 _ q).1
    rw [ok.2] at e
    rcases jw_k0_cases (a / 64) with g | g | g
    · exact absurd (e.trans g) h1
    · exact absurd (e.trans g) h2
    · exact absurd (e.trans g) h3
  · exact q
theorem jw_H.ks {w : jw_W} {ad : Nat → Nat} {S : so_St} {H : Heap} (h : jw_H w ad S H) : ∀ i, S.2.2.1 i < 64 := h.2.2.2.2.2.2.2
/-- a cell of the run is changed -/
theorem jw_H.upd {w : jw_W} {ad : Nat → Nat} {S : so_St} {H H1 : Heap} {a : Nat} {c : so_Cel} (h : jw_H w ad S H) (hb : 44 ≤ a / 64) (hP : va_P w.1 jw_cl (jw_L w ad (so_up S a c)) H1) (hD : va_D (jw_A w) (jw_L w ad (so_up S a c)))
    (hr : ∀ j b, c.2.2.1 j = some b → so_ok S b) (h51 : a % 64 = 51 → ∀ j, fits .byte (.int (c.2.1 j)) = true) (h52 : a % 64 = 52 → ∀ j, fits .boolean (.int (c.2.1 j)) = true) : jw_H w ad (so_up S a c) H1 := by
  refine ⟨h.1, hP, hD, fun i hi => ⟨(h.2.2.2.1 i hi).1, ?_⟩, fun x j b e => ?_, fun x j e => ?_, fun x j e => ?_, h.2.2.2.2.2.2.2⟩
  · show (if 64 * i + jw_k0 i = a then c else S.2.2.2 (64 * i + jw_k0 i)) = jw_c0 i
    rw [if_neg (fun q => ?_)]
    · exact (h.2.2.2.1 i hi).2
    · have : jw_k0 i < 64 := by rcases jw_k0_cases i with g | g | g <;> omega
      omega
  · have e : (if x = a then c else S.2.2.2 x).2.2.1 j = some b := e
    show so_ok S b
    by_cases hx : x = a
    · rw [if_pos hx] at e
      exact hr j b e
    · rw [if_neg hx] at e
      exact h.2.2.2.2.1 x j b e
  · show fits .byte (.int ((if x = a then c else S.2.2.2 x).2.1 j)) = true
    by_cases hx : x = a
    · rw [if_pos hx]
      exact h51 (hx ▸ e) j
    · rw [if_neg hx]
      exact h.2.2.2.2.2.1 x j e
  · show fits .boolean (.int ((if x = a then c else S.2.2.2 x).2.1 j)) = true
    by_cases hx : x = a
    · rw [if_pos hx]
      exact h52 (hx ▸ e) j
    · rw [if_neg hx]
      exact h.2.2.2.2.2.2.1 x j e
/-- a new cell -/
theorem jw_H.new {w : jw_W} {ad : Nat → Nat} {S : so_St} {H H1 : Heap} {k len sz q : Nat} (h : jw_H w ad S H) (hk : k < 64) (hP : va_P w.1 jw_cl (jw_L w ad S ++ [(q, jw_E w (va_up ad (so_at S k) q) k (so_z len))]) H1) (hD : va_D (jw_A w) (jw_L w ad S ++ [(q, jw_E w (va_up ad (so_at S k) q) k (so_z len))])) :
    jw_H w (va_up ad (so_at S k) q) (so_new S k len sz) H1 ∧ (∀ a, so_ok S a → va_up ad (so_at S k) q a = ad a) := by
  have ha : ∀ a, so_ok S a → va_up ad (so_at S k) q a = ad a := fun a ok => by
    refine va_up_ne _ _ (fun e => ?_)
    have h1 := ok.1
    rw [e] at h1
    have : so_at S k / 64 = S.1 := by show (64 * S.1 + k) / 64 = S.1; omega
    omega
  have hq : va_up ad (so_at S k) q (so_at S k) = q := va_up_self _ _ _
  have e := jw_L_new (w := w) (ad := ad) (ad' := va_up ad (so_at S k) q) (k := k) (len := len) (sz := sz) h.ks h.1 h.2.2.2.2.1 ha
  rw [hq] at e
  refine ⟨⟨Nat.le_succ_of_le h.1, by rw [e]; exact hP, by rw [e]; exact hD, fun i hi => ?_, fun x j b g => ?_, fun x j g => ?_, fun x j g => ?_, fun i => ?_⟩, ha⟩
  · have n1 : i ≠ S.1 := by have := h.1; omega
    refine ⟨?_, ?_⟩
    · show (if i = S.1 then k else S.2.2.1 i) = jw_k0 i
      rw [if_neg n1]
      exact (h.2.2.2.1 i hi).1
    · show (if 64 * i + jw_k0 i = so_at S k then so_z len else S.2.2.2 (64 * i + jw_k0 i)) = jw_c0 i
      rw [if_neg (fun g => ?_)]
      · exact (h.2.2.2.1 i hi).2
      · have g : 64 * i + jw_k0 i = 64 * S.1 + k := g
        have : jw_k0 i < 64 := by rcases jw_k0_cases i with g | g | g <;> omega
        omega
  · have g : (if x = so_at S k then so_z len else S.2.2.2 x).2.2.1 j = some b := g
    by_cases hx : x = so_at S k
    · rw [if_pos hx] at g
      cases g
    · rw [if_neg hx] at g
      exact (h.2.2.2.2.1 x j b g).ext (so_Ext.new S k len sz)
  · show fits .byte (.int ((if x = so_at S k then so_z len else S.2.2.2 x).2.1 j)) = true
    by_cases hx : x = so_at S k
    · rw [if_pos hx]
      rfl
    · rw [if_neg hx]
      exact h.2.2.2.2.2.1 x j g
  · show fits .boolean (.int ((if x = so_at S k then so_z len else S.2.2.2 x).2.1 j)) = true
    by_cases hx : x = so_at S k
    · rw [if_pos hx]
      rfl
    · rw [if_neg hx]
      exact h.2.2.2.2.2.2.1 x j g
  · show (if i = S.1 then k else S.2.2.1 i) < 64
    by_cases hi : i = S.1
    · rw [if_pos hi]; exact hk
    · rw [if_neg hi]; exact h.ks i
theorem jw_F_len {w : jw_W} {ad : Nat → Nat} {t : List Bool} {c : so_Cel} : (jw_F w ad t c).length = t.length := by simp [jw_F]
theorem jw_F_getI {w : jw_W} {ad : Nat → Nat} {t : List Bool} {c : so_Cel} {k : Nat} (hk : k < t.length) (ht : t.getD k false = false) : (jw_F w ad t c)[k]? = some (.int (c.2.1 k)) := by
  rw [jw_F, List.getElem?_map, List.getElem?_range hk, Option.map_some, if_neg (by rw [ht]; decide)]
theorem jw_F_getR {w : jw_W} {ad : Nat → Nat} {t : List Bool} {c : so_Cel} {k : Nat} (hk : k < t.length) (ht : t.getD k false = true) : (jw_F w ad t c)[k]? = some (va_rf (jw_cr w ad (c.2.2.1 k))) := by
  rw [jw_F, List.getElem?_map, List.getElem?_range hk, Option.map_some, if_pos ht]
theorem jw_F_setI {w : jw_W} {ad : Nat → Nat} {t : List Bool} {c : so_Cel} {k : Nat} {v : Int32} (hk : k < t.length) (ht : t.getD k false = false) : (jw_F w ad t c).set k (.int v) = jw_F w ad t (c.1, upd c.2.1 k v, c.2.2) := by
  apply List.ext_getElem?
  intro i
  rw [List.getElem?_set, jw_F_len]
  by_cases hi : i < t.length
  · rw [jw_F, jw_F, List.getElem?_map, List.getElem?_map, List.getElem?_range hi, Option.map_some, Option.map_some]
    by_cases h : k = i
    · subst h
      rw [if_pos rfl, if_pos hk, if_neg (by rw [ht]; decide)]
      show some (Value.int v) = some (Value.int (upd c.2.1 k v k))
      rw [upd, if_pos rfl]
    · rw [if_neg h]
      show _ = some (if t.getD i false = true then _ else Value.int (upd c.2.1 k v i))
      rw [upd, if_neg (Ne.symm h)]
  · rw [List.getElem?_eq_none (by rw [jw_F_len]; omega), List.getElem?_eq_none (by rw [jw_F_len]; omega), if_neg (by omega)]
theorem jw_F_setR {w : jw_W} {ad : Nat → Nat} {t : List Bool} {c : so_Cel} {k : Nat} {r : Option Nat} (hk : k < t.length) (ht : t.getD k false = true) : (jw_F w ad t c).set k (va_rf (jw_cr w ad r)) = jw_F w ad t (c.1, c.2.1, va_up c.2.2.1 k r, c.2.2.2) := by
  apply List.ext_getElem?
  intro i
  rw [List.getElem?_set, jw_F_len]
  by_cases hi : i < t.length
  · rw [jw_F, jw_F, List.getElem?_map, List.getElem?_map, List.getElem?_range hi, Option.map_some, Option.map_some]
    by_cases h : k = i
    · subst h
      rw [if_pos rfl, if_pos hk, if_pos ht]
      show _ = some (va_rf (jw_cr w ad (va_up c.2.2.1 k r k)))
      rw [va_up_self]
    · rw [if_neg h]
      show _ = some (if t.getD i false = true then va_rf (jw_cr w ad (va_up c.2.2.1 k r i)) else _)
      rw [va_up_ne _ _ (Ne.symm h)]
  · rw [List.getElem?_eq_none (by rw [jw_F_len]; omega), List.getElem?_eq_none (by rw [jw_F_len]; omega), if_neg (by omega)]
theorem jw_E_o {w : jw_W} {ad : Nat → Nat} {k : Nat} {c : so_Cel} (h : k < 29) : jw_E w ad k c = .inr (k, jw_F w ad (jw_ft k) c) := by
  unfold jw_E
  rw [if_neg (by omega), if_neg (by omega), if_neg (by omega), if_neg (by omega), if_neg (by omega), if_neg (by omega), if_neg (by omega)]
/-- a field by its link: own's entry idx, place k in the classes of the kinds ks -/
def jf_ (own : String) (idx : Nat) (ks : List Nat) (k : Nat) (isR : Bool) : Prop := ∀ ci ∈ ks, ∃ (C : String) (T : u_T) (N : Nat) (ref : String), ci < 29 ∧ jw_cl[ci]? = some (C, T, N) ∧ (∀ w ∈ u_ws C T N, w ∈ lw_all) ∧ k < N ∧ (jw_ft ci).length = N ∧ (jw_ft ci).getD k false = isR ∧
  (Cond.fieldLink own idx ref (T k).2.1 (T k).2.2.1 ∈ lw_all ∨ ∃ host, Cond.fieldLinkNest own idx ref (T k).2.1 (T k).2.2.1 host ∈ lw_tbl) ∧
  (∀ (A : Array Value) (s : State), (∀ w ∈ lw_all, w.before A s = true) → ∀ x, s.fieldFound? (T k).1 (T k).2.1 (T k).2.2.1 = some x → s.fieldFound? ref (T k).2.1 (T k).2.2.1 = some x)
/-- .. and what a store into it needs -/
def jfp_ (own : String) (idx : Nat) (ks : List Nat) (k : Nat) (isR fin : Bool) (ty : FieldType) : Prop := ∀ ci ∈ ks, ∃ (C : String) (T : u_T) (N : Nat) (ref : String) (ty0 : Nat → FieldType), ci < 29 ∧ jw_cl[ci]? = some (C, T, N) ∧ (∀ w ∈ u_ws C T N, w ∈ lw_all) ∧ k < N ∧ (jw_ft ci).length = N ∧ (jw_ft ci).getD k false = isR ∧
  (Cond.fieldLink own idx ref (T k).2.1 (T k).2.2.1 ∈ lw_all ∨ (fin = false ∧ ∃ host, Cond.fieldLinkNest own idx ref (T k).2.1 (T k).2.2.1 host ∈ lw_tbl)) ∧
  (∀ (A : Array Value) (s : State), (∀ w ∈ lw_all, w.before A s = true) → ∀ x, s.fieldFound? (T k).1 (T k).2.1 (T k).2.2.1 = some x → s.fieldFound? ref (T k).2.1 (T k).2.2.1 = some x) ∧
  (∀ k, k < N → parseFieldDescriptor (T k).2.2.1 = some (ty0 k)) ∧ (∀ a, a < N → ∀ b, b < N → a ≠ b → (T a).2.1 ≠ (T b).2.1) ∧ (T k).2.2.2 = fin ∧ parseFieldDescriptor (T k).2.2.1 = some ty ∧ (fin = true → (T k).1 = own)
section JH
variable {z : jx_Z} {T : jx_T} {K : jx_K} {pc : Nat} {lv lv' : List (Nat × Value)} {st st' : List Value} {S S1 : so_St}
theorem jm_big {w : jw_W} {ad : Nat → Nat} {H : Heap} {a : Nat} {ks : List Nat} (h : jw_H w ad S H) (ok : so_ok S a) (hk : a % 64 ∈ ks) (hks : ∀ ci ∈ ks, ci < 29) (hb : 26 ∈ ks → 44 ≤ a / 64) : 44 ≤ a / 64 := by
  by_cases e : a % 64 = 26
  · exact hb (e ▸ hk)
  · have := hks _ hk
    exact h.big ok (by omega) e (by omega)
theorem jr_getI {idx k a : Nat} {ks : List Nat} (hF : jf_ K.2.2.1 idx ks k false) (hk : a % 64 ∈ ks) (hb : 26 ∈ ks → 44 ≤ a / 64) (hd : decode K.1 pc = .ok (.getfield idx, 3)) (k9 : jg_ T K (pc + 3) lv (.int (so_I S a k) :: st) S) : jg_ T K pc lv (.ref a :: st) S := by
  refine ⟨k9.1, fun z hC ad H locs ls kk u h => ?_⟩
  obtain ⟨C, TT, N, ref, h1, h2, h3, h4, h5, h6, h7, h8⟩ := hF _ hk
  have ok : so_ok S a := h.os.h a rfl
  have hbig := jm_big h.1 ok hk (fun ci hc => (hF ci hc).choose_spec.choose_spec.choose_spec.choose_spec.1) hb
  have hg := jw_L_get (w := jx_w z) (ad := ad) ok hbig
  rw [jw_E_o h1] at hg
  have hkk := k9.2 z hC ad H locs ls kk u (h.mv (jo_c jo_i h.os.t))
  show jx_W z H locs kk u (jx_Q z T) (F0 (jx_m z) pc ls (jw_v (jx_w z) ad (.ref a) :: st.map (jw_v (jx_w z) ad)))
  rw [jw_v_n (by omega)]
  rcases h7 with h7 | ⟨host, h7⟩
  · exact va_get (D := (jx_w z).1) (cl := jw_cl) (tys := jw_ty (jx_w z)) hC.x hC.b hC.t h3 hC.o hC.U.1 h.1.2.1 _ hg h2 k h4 (hC.t _ h7) (h8 _ _ hC.t) (jw_F_getI (by omega) h6) hd hkk
  · exact va_getN (D := (jx_w z).1) (cl := jw_cl) (tys := jw_ty (jx_w z)) hC.x hC.b hC.t h3 hC.o hC.U.1 h.1.2.1 _ hg h2 k h4 (va_Nw.use rfl (hC.U.2.1 _ h7 rfl)) (h8 _ _ hC.t) (jw_F_getI (by omega) h6) hd hkk
theorem jr_getR {idx k a : Nat} {ks : List Nat} (hF : jf_ K.2.2.1 idx ks k true) (hk : a % 64 ∈ ks) (hb : 26 ∈ ks → 44 ≤ a / 64) (hd : decode K.1 pc = .ok (.getfield idx, 3)) (k9 : jg_ T K (pc + 3) lv (va_rf (so_R S a k) :: st) S) : jg_ T K pc lv (.ref a :: st) S := by
  refine ⟨k9.1, fun z hC ad H locs ls kk u h => ?_⟩
  obtain ⟨C, TT, N, ref, h1, h2, h3, h4, h5, h6, h7, h8⟩ := hF _ hk
  have ok : so_ok S a := h.os.h a rfl
  have hbig := jm_big h.1 ok hk (fun ci hc => (hF ci hc).choose_spec.choose_spec.choose_spec.choose_spec.1) hb
  have hg := jw_L_get (w := jx_w z) (ad := ad) ok hbig
  rw [jw_E_o h1] at hg
  have hkk := k9.2 z hC ad H locs ls kk u (h.mv (jo_c (jo_rf (fun b e => h.1.2.2.2.2.1 a k b e)) h.os.t))
  have hkk : jx_W z H locs kk u (jx_Q z T) (F0 (jx_m z) (pc + 3) ls (jw_v (jx_w z) ad (va_rf (so_R S a k)) :: st.map (jw_v (jx_w z) ad))) := hkk
  rw [jw_v_rf] at hkk
  show jx_W z H locs kk u (jx_Q z T) (F0 (jx_m z) pc ls (jw_v (jx_w z) ad (.ref a) :: st.map (jw_v (jx_w z) ad)))
  rw [jw_v_n (by omega)]
  rcases h7 with h7 | ⟨host, h7⟩
  · exact va_get (D := (jx_w z).1) (cl := jw_cl) (tys := jw_ty (jx_w z)) hC.x hC.b hC.t h3 hC.o hC.U.1 h.1.2.1 _ hg h2 k h4 (hC.t _ h7) (h8 _ _ hC.t) (jw_F_getR (by omega) h6) hd hkk
  · exact va_getN (D := (jx_w z).1) (cl := jw_cl) (tys := jw_ty (jx_w z)) hC.x hC.b hC.t h3 hC.o hC.U.1 h.1.2.1 _ hg h2 k h4 (va_Nw.use rfl (hC.U.2.1 _ h7 rfl)) (h8 _ _ hC.t) (jw_F_getR (by omega) h6) hd hkk
/-- what holds behind a store into a cell of the run -/
theorem jg_in.upd {ad : Nat → Nat} {H H1 : Heap} {locs locs1 : List Loc} {ls : Array Slot} {k u a : Nat} {c : so_Cel} (h : jg_in z T K.2.1 lv st S ad H locs ls k u) (h1 : jw_H (jx_w z) ad (so_up S a c) H1) (h2 : va_S (jw_A (jx_w z)) (jx_s z).heap H1 locs1) (h3 : jo_s S st') : jg_in z T K.2.1 lv st' (so_up S a c) ad H1 locs1 ls k u :=
  ⟨h1, h.2.1, h2, h.2.2.2.1, h.2.2.2.2.1, h3, h.2.2.2.2.2.2.1, h.2.2.2.2.2.2.2.1, h.2.2.2.2.2.2.2.2⟩
theorem jr_putI {idx k a : Nat} {ks : List Nat} {fin : Bool} {ty : FieldType} {v : Int32} (hF : jfp_ K.2.2.1 idx ks k false fin ty) (hk : a % 64 ∈ ks) (hb : 26 ∈ ks → 44 ≤ a / 64) (hfi : fin = true → K.2.2.2.2.2.1 = "<init>") (hn : narrow ty (.int v) = .int v) (hf : fits ty (.int v) = true) (hd : decode K.1 pc = .ok (.putfield idx, 3)) (k9 : jg_ T K (pc + 3) lv st (so_sI S a k v)) : jg_ T K pc lv (.int v :: .ref a :: st) S := by
  refine ⟨(so_Ext.up S a _).tr k9.1, fun z hC ad H locs ls kk u h => ?_⟩
  obtain ⟨C, TT, N, ref, ty0, h1, h2, h3, h4, h5, h6, h7, h8, h9, h10, h11, h12, h13⟩ := hF _ hk
  have ok : so_ok S a := h.os.t.h a rfl
  have hbig := jm_big h.1 ok hk (fun ci hc => (hF ci hc).choose_spec.choose_spec.choose_spec.choose_spec.choose_spec.1) hb
  have hg := jw_L_get (w := jx_w z) (ad := ad) ok hbig
  rw [jw_E_o h1] at hg
  have hfl : k < (jw_F (jx_w z) ad (jw_ft (a % 64)) (S.2.2.2 a)).length := by rw [jw_F_len]; omega
  have next : ∀ (H1 : Heap) (locs1 : List Loc), va_P (jx_w z).1 jw_cl ((jw_L (jx_w z) ad S).set (a / 64 - 44) (ad a, .inr (a % 64, (jw_F (jx_w z) ad (jw_ft (a % 64)) (S.2.2.2 a)).set k (.int v)))) H1 → va_D (jw_A (jx_w z)) ((jw_L (jx_w z) ad S).set (a / 64 - 44) (ad a, .inr (a % 64, (jw_F (jx_w z) ad (jw_ft (a % 64)) (S.2.2.2 a)).set k (.int v)))) → va_S (jw_A (jx_w z)) (jx_s z).heap H1 locs1 → jx_W z H1 locs1 kk u (jx_Q z T) (F0 (jx_m z) (pc + 3) ls (st.map (jw_v (jx_w z) ad))) := by
    intro H1 locs1 hP hD hS
    rw [jw_F_setI (by omega) h6, ← jw_E_o (w := jx_w z) (ad := ad) h1, jw_L_set h.1.ks ok hbig] at hP hD
    exact k9.2 z hC ad H1 locs1 ls kk u (h.upd (h.1.upd hbig hP hD (fun j b e => h.1.2.2.2.2.1 a j b e) (fun e => absurd e (by omega)) (fun e => absurd e (by omega))) hS h.os.t.t)
  show jx_W z H locs kk u (jx_Q z T) (F0 (jx_m z) pc ls (.int v :: jw_v (jx_w z) ad (.ref a) :: st.map (jw_v (jx_w z) ad)))
  rw [jw_v_n (by omega)]
  rcases h7 with h7 | ⟨hff, host, h7⟩
  · cases fin with
    | false => exact va_put (D := (jx_w z).1) (cl := jw_cl) (tys := jw_ty (jx_w z)) hC.x hC.b hC.t h3 ty0 h9 h10 hC.o hC.U.1 h.1.2.1 h.1.2.2.1 h.hs _ hg h2 k h4 (hC.t _ h7) (h8 _ _ hC.t) h11 h12 hn hf hfl hd next
    | true => exact va_putF (D := (jx_w z).1) (cl := jw_cl) (tys := jw_ty (jx_w z)) hC.x hC.b hC.t h3 ty0 h9 h10 hC.o hC.U.1 h.1.2.1 h.1.2.2.1 h.hs _ hg h2 k h4 (hC.t _ h7) (h8 _ _ hC.t) h11 (hC.n.trans (hfi rfl)) (h13 rfl) h12 hn hf hfl hd next
  · subst hff
    exact va_putN (D := (jx_w z).1) (cl := jw_cl) (tys := jw_ty (jx_w z)) hC.x hC.b hC.t h3 ty0 h9 h10 hC.o hC.U.1 h.1.2.1 h.1.2.2.1 h.hs _ hg h2 k h4 (va_Nw.use rfl (hC.U.2.1 _ h7 rfl)) (h8 _ _ hC.t) h11 h12 hn hf hfl hd next
/-- a reference fits a field of a reference's type -/
theorem jm_fit {ty : FieldType} (h : ty.isReference = true) {w : jw_W} {ad : Nat → Nat} {r : Option Nat} : narrow ty (va_rf (jw_cr w ad r)) = va_rf (jw_cr w ad r) ∧ fits ty (va_rf (jw_cr w ad r)) = true := by
  generalize jw_cr w ad r = c
  cases c <;> cases ty <;> first | (constructor <;> rfl) | cases h
theorem jr_putR {idx k a : Nat} {ks : List Nat} {fin : Bool} {ty : FieldType} {r : Option Nat} {v : Value} (hv : v = va_rf r) (hF : jfp_ K.2.2.1 idx ks k true fin ty) (hk : a % 64 ∈ ks) (hb : 26 ∈ ks → 44 ≤ a / 64) (hfi : fin = true → K.2.2.2.2.2.1 = "<init>") (hty : ty.isReference = true) (hd : decode K.1 pc = .ok (.putfield idx, 3)) (k9 : jg_ T K (pc + 3) lv st (so_sR S a k r)) : jg_ T K pc lv (v :: .ref a :: st) S := by
  subst hv
  refine ⟨(so_Ext.up S a _).tr k9.1, fun z hC ad H locs ls kk u h => ?_⟩
  obtain ⟨C, TT, N, ref, ty0, h1, h2, h3, h4, h5, h6, h7, h8, h9, h10, h11, h12, h13⟩ := hF _ hk
  have ok : so_ok S a := h.os.t.h a rfl
  have hr : ∀ b, r = some b → so_ok S b := fun b e => h.os.h b (by rw [e]; rfl)
  have hbig := jm_big h.1 ok hk (fun ci hc => (hF ci hc).choose_spec.choose_spec.choose_spec.choose_spec.choose_spec.1) hb
  have hg := jw_L_get (w := jx_w z) (ad := ad) ok hbig
  rw [jw_E_o h1] at hg
  obtain ⟨hn, hf⟩ := jm_fit (ty := ty) hty (w := jx_w z) (ad := ad) (r := r)
  have hfl : k < (jw_F (jx_w z) ad (jw_ft (a % 64)) (S.2.2.2 a)).length := by rw [jw_F_len]; omega
  have next : ∀ (H1 : Heap) (locs1 : List Loc), va_P (jx_w z).1 jw_cl ((jw_L (jx_w z) ad S).set (a / 64 - 44) (ad a, .inr (a % 64, (jw_F (jx_w z) ad (jw_ft (a % 64)) (S.2.2.2 a)).set k (va_rf (jw_cr (jx_w z) ad r))))) H1 → va_D (jw_A (jx_w z)) ((jw_L (jx_w z) ad S).set (a / 64 - 44) (ad a, .inr (a % 64, (jw_F (jx_w z) ad (jw_ft (a % 64)) (S.2.2.2 a)).set k (va_rf (jw_cr (jx_w z) ad r))))) → va_S (jw_A (jx_w z)) (jx_s z).heap H1 locs1 → jx_W z H1 locs1 kk u (jx_Q z T) (F0 (jx_m z) (pc + 3) ls (st.map (jw_v (jx_w z) ad))) := by
    intro H1 locs1 hP hD hS
    rw [jw_F_setR (by omega) h6, ← jw_E_o (w := jx_w z) (ad := ad) h1, jw_L_set h.1.ks ok hbig] at hP hD
    refine k9.2 z hC ad H1 locs1 ls kk u (h.upd (h.1.upd hbig hP hD (fun j b e => ?_) (fun e => absurd e (by omega)) (fun e => absurd e (by omega))) hS h.os.t.t)
    have e : va_up (S.2.2.2 a).2.2.1 k r j = some b := e
    by_cases hj : j = k
    · rw [hj, va_up_self] at e
      exact hr b e
    · rw [va_up_ne _ _ hj] at e
      exact h.1.2.2.2.2.1 a j b e
  show jx_W z H locs kk u (jx_Q z T) (F0 (jx_m z) pc ls (jw_v (jx_w z) ad (va_rf r) :: jw_v (jx_w z) ad (.ref a) :: st.map (jw_v (jx_w z) ad)))
  rw [jw_v_n (by omega), jw_v_rf]
  rcases h7 with h7 | ⟨hff, host, h7⟩
  · cases fin with
    | false => exact va_put (D := (jx_w z).1) (cl := jw_cl) (tys := jw_ty (jx_w z)) hC.x hC.b hC.t h3 ty0 h9 h10 hC.o hC.U.1 h.1.2.1 h.1.2.2.1 h.hs _ hg h2 k h4 (hC.t _ h7) (h8 _ _ hC.t) h11 h12 hn hf hfl hd next
    | true => exact va_putF (D := (jx_w z).1) (cl := jw_cl) (tys := jw_ty (jx_w z)) hC.x hC.b hC.t h3 ty0 h9 h10 hC.o hC.U.1 h.1.2.1 h.1.2.2.1 h.hs _ hg h2 k h4 (hC.t _ h7) (h8 _ _ hC.t) h11 (hC.n.trans (hfi rfl)) (h13 rfl) h12 hn hf hfl hd next
  · subst hff
    exact va_putN (D := (jx_w z).1) (cl := jw_cl) (tys := jw_ty (jx_w z)) hC.x hC.b hC.t h3 ty0 h9 h10 hC.o hC.U.1 h.1.2.1 h.1.2.2.1 h.hs _ hg h2 k h4 (va_Nw.use rfl (hC.U.2.1 _ h7 rfl)) (h8 _ _ hC.t) h11 h12 hn hf hfl hd next
end JH
