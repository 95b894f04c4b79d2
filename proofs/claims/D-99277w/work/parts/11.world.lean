/-! BASE B: the world: what of the machine's heap the abstract store pictures -/
set_option maxRecDepth 100000
def jw_T0 : u_T := fun _ => ("", "", "", false)
def jw_cl : List vw_C := [(RX1, TX1, 26), (RX2, TX2, 10), (RX10, TX10, 6), (RX11, TX11, 8), (RX12, TX12, 2), (RX13, TX13, 5), (RX14, TX14, 1), (RX15, TX15, 2), (RX16, TX16, 2), (RX17, TX17, 2), (RX18, TX18, 2), (RX19, TX19, 2), (RX20, TX20, 2), (RX21, TX21, 6), (RX24, TX24, 2), (RX25, TX25, 1), (RX26, TX26, 2), (RX27, jw_T0, 0), (RX28, TX28, 2), (RX29, TX29, 7), (RX5, TX5, 2), (RX6, TX6, 1), (RX7, TX7, 11), (RX8, TX8, 50), (RJ2, TJ2, 3), (RJ8, TJ8, 4), (RJ9, TJ9, 4), (RJ6, jw_T0, 0), (RJ18, jw_T0, 0)]
/-- which fields are references, by kind -/
def jw_ft : Nat → List Bool := fun k => match k with
  | 0 => [true, true, true, true, true, true, true, true, true, true, true, false, false, false, false, false, false, false, true, true, true, false, true, true, true, false]
  | 1 => [true, true, true, true, true, true, false, false, false, false]
  | 2 => [true, false, false, false, false, true]
  | 3 => [true, true, true, true, true, false, false, false]
  | 4 => [false, false]
  | 5 => [true, false, false, false, false]
  | 6 => [false]
  | 7 => [true, true]
  | 8 => [true, true]
  | 9 => [true, true]
  | 10 => [true, true]
  | 11 => [true, true]
  | 12 => [true, true]
  | 13 => [true, false, false, false, false, true]
  | 14 => [false, false]
  | 15 => [false]
  | 16 => [false, false]
  | 18 => [false, true]
  | 19 => [true, false, false, false, false, true, false]
  | 20 => [true, true]
  | 21 => [false]
  | 22 => [true, true, true, true, true, false, false, false, false, false, true]
  | 23 => [false, false, false, false, false, false, false, false, false, true, true, true, true, true, true, true, true, true, true, true, true, false, false, true, true, true, true, true, true, true, false, true, true, true, true, true, false, false, false, false, false, false, false, true, false, true, true, true, false, false]
  | 24 => [false, true, false]
  | 25 => [true, false, false, false]
  | 26 => [true, false, false, false]
  | _ => []
def jw_len : List Nat := [5, 4, 5, 4, 4, 6, 4, 4, 4, 5, 4, 5, 3, 5, 4, 3, 4, 3, 3, 5]
def jw_byt : List (List Int32) := [[104, 111, 117, 115, 101], [119, 97, 108, 108], [112, 105, 97, 110, 111], [119, 105, 115, 104], [102, 101, 108, 116], [115, 116, 114, 111, 110, 103], [102, 101, 108, 116], [100, 97, 121, 115], [104, 101, 114, 101], [116, 104, 105, 110, 103], [110, 101, 120, 116], [104, 111, 117, 115, 101], [100, 97, 121], [108, 101, 97, 115, 116], [109, 111, 115, 116], [112, 117, 116], [116, 97, 107, 101], [108, 97, 121], [100, 97, 121], [97, 103, 97, 105, 110]]
/-- the literals: class, entry, text, number -/
def jw_lits : List (String × Nat × String × Nat) := [("TunedHouses$TerraceReader", 55, "house", 0), ("TunedHouses$TerraceReader", 61, "wall", 1), ("TunedHouses$TerraceReader", 63, "piano", 2), ("TunedHouses$TerraceReader", 83, "wish", 3), ("TunedHouses$TerraceReader", 84, "felt", 4), ("TunedHouses$LawReader", 80, "strong", 5), ("TunedHouses$LawReader", 86, "felt", 6), ("TunedHouses$LawReader", 88, "days", 7), ("TunedHouses$LawReader", 90, "here", 8), ("TunedHouses$LawReader", 92, "thing", 9), ("TunedHouses$LawReader", 94, "next", 10), ("TunedHouses$LawReader", 95, "house", 11), ("TunedHouses$LawReader", 97, "day", 12), ("TunedHouses$LawReader", 99, "least", 13), ("TunedHouses$LawReader", 101, "most", 14), ("TunedHouses$WorkReader", 60, "put", 15), ("TunedHouses$WorkReader", 65, "take", 16), ("TunedHouses$WorkReader", 67, "lay", 17), ("TunedHouses$WorkReader", 69, "day", 18), ("TunedHouses$WorkReader", 71, "again", 19)]
/-- the machine's side: class numbers and slots, array classes, the first address of the run, two of Throwable's statics, the script -/
abbrev jw_W : Type := va_G × (Nat → ClassId) × Nat × Option Nat × Option Nat × Nat × (Nat → Int32)
def jw_A (w : jw_W) : Nat → Prop := fun q => w.2.2.1 ≤ q
def jw_ty (w : jw_W) : List (ClassId × FieldType) := [(w.2.1 0, .int), (w.2.1 1, .byte), (w.2.1 2, .boolean), (w.2.1 3, .long), (w.2.1 4, .object "TunedHouses$Terrace"), (w.2.1 5, .object "java/lang/Object"), (w.2.1 6, .array .int)]
def jw_cr (w : jw_W) (ad : Nat → Nat) (r : Option Nat) : Option Nat := match r with
  | none => none
  | some k => if k = 63 then w.2.2.2.1 else if k = 127 then w.2.2.2.2.1 else some (ad k)
def jw_v (w : jw_W) (ad : Nat → Nat) (v : Value) : Value := match v with
  | .ref k => va_rf (jw_cr w ad (some k))
  | v => v
def jw_lv (w : jw_W) (ad : Nat → Nat) (q : Nat × Value) : Nat × Value := (q.1, jw_v w ad q.2)
def jw_F (w : jw_W) (ad : Nat → Nat) (t : List Bool) (c : so_Cel) : List Value := (List.range t.length).map fun j => if t.getD j false = true then va_rf (jw_cr w ad (c.2.2.1 j)) else .int (c.2.1 j)
def jw_E (w : jw_W) (ad : Nat → Nat) (k : Nat) (c : so_Cel) : va_E :=
  if k = 50 then .inl (w.2.1 0, c.1, .inl c.2.1)
  else if k = 51 then .inl (w.2.1 1, c.1, .inl c.2.1)
  else if k = 52 then .inl (w.2.1 2, c.1, .inl c.2.1)
  else if k = 53 then .inl (w.2.1 3, c.1, .inr (.inl c.2.2.2))
  else if k = 54 then .inl (w.2.1 4, c.1, .inr (.inr (.inr (.inr (fun j => jw_cr w ad (c.2.2.1 j))))))
  else if k = 55 then .inl (w.2.1 5, c.1, .inr (.inr (.inr (.inr (fun j => jw_cr w ad (c.2.2.1 j))))))
  else if k = 56 then .inl (w.2.1 6, c.1, .inr (.inr (.inr (.inr (fun j => jw_cr w ad (c.2.2.1 j))))))
  else .inr (k, jw_F w ad (jw_ft k) c)
def jw_sa (S : so_St) (i : Nat) : Nat := 64 * i + S.2.2.1 i
def jw_L (w : jw_W) (ad : Nat → Nat) (S : so_St) : va_W := (List.range (S.1 - 44)).map fun i => (ad (jw_sa S (44 + i)), jw_E w ad (S.2.2.1 (44 + i)) (S.2.2.2 (jw_sa S (44 + i))))
/-- the constants' kinds and cells: two statics, 20 literals with their bytes, a mirror, the script -/
def jw_k0 (i : Nat) : Nat := if i < 2 ∨ 42 ≤ i then 63 else if i % 2 = 0 then 26 else 51
def jw_c0 (i : Nat) : so_Cel := if i < 2 ∨ 42 ≤ i then so_z 0 else if i % 2 = 0 then (0, fun _ => 0, fun j => if j = 0 then some (64 * (i + 1) + 51) else none, fun _ => 0) else (jw_len.getD ((i - 3) / 2) 0, fun j => (jw_byt.getD ((i - 3) / 2) []).getD j 0, fun _ => none, fun _ => 0)
def jw_H (w : jw_W) (ad : Nat → Nat) (S : so_St) (H : Heap) : Prop :=
  44 ≤ S.1 ∧ va_P w.1 jw_cl (jw_L w ad S) H ∧ va_D (jw_A w) (jw_L w ad S) ∧ (∀ i, i < 44 → S.2.2.1 i = jw_k0 i ∧ S.2.2.2 (64 * i + jw_k0 i) = jw_c0 i) ∧
  (∀ a j b, so_R S a j = some b → so_ok S b) ∧ (∀ a j, a % 64 = 51 → fits .byte (.int (so_I S a j)) = true) ∧ (∀ a j, a % 64 = 52 → fits .boolean (.int (so_I S a j)) = true) ∧ (∀ i, S.2.2.1 i < 64)
theorem jw_cr_same {w : jw_W} {ad ad' : Nat → Nat} {r : Option Nat} (h : ∀ b, r = some b → ad' b = ad b) : jw_cr w ad' r = jw_cr w ad r := by
  cases r with
  | none => rfl
  | some k => show (if k = 63 then _ else if k = 127 then _ else some (ad' k)) = (if k = 63 then _ else if k = 127 then _ else some (ad k)); rw [h k rfl]
theorem jw_v_same {w : jw_W} {ad ad' : Nat → Nat} {v : Value} (h : ∀ b, v = .ref b → ad' b = ad b) : jw_v w ad' v = jw_v w ad v := by
  cases v with
  | ref k => show va_rf _ = va_rf _; rw [jw_cr_same (ad' := ad') (ad := ad) (fun b hb => by cases hb; exact h k rfl)]
  | _ => rfl
theorem jw_E_same {w : jw_W} {ad ad' : Nat → Nat} {k : Nat} {c : so_Cel} (h : ∀ j b, c.2.2.1 j = some b → ad' b = ad b) : jw_E w ad' k c = jw_E w ad k c := by
  have e : ∀ j, jw_cr w ad' (c.2.2.1 j) = jw_cr w ad (c.2.2.1 j) := fun j => jw_cr_same (h j)
  unfold jw_E jw_F
  simp only [e]
theorem jw_cr_n {w : jw_W} {ad : Nat → Nat} {a : Nat} (h : a % 64 ≠ 63) : jw_cr w ad (some a) = some (ad a) := by
  show (if a = 63 then _ else if a = 127 then _ else some (ad a)) = some (ad a)
  rw [if_neg (by omega), if_neg (by omega)]
theorem jw_v_n {w : jw_W} {ad : Nat → Nat} {a : Nat} (h : a % 64 ≠ 63) : jw_v w ad (.ref a) = .ref (ad a) := by
  show va_rf (jw_cr w ad (some a)) = _
  rw [jw_cr_n h]
  rfl
theorem jw_v_rf {w : jw_W} {ad : Nat → Nat} (r : Option Nat) : jw_v w ad (va_rf r) = va_rf (jw_cr w ad r) := by
  cases r <;> rfl
theorem jw_v_cat {w : jw_W} {ad : Nat → Nat} (v : Value) : (jw_v w ad v).category = v.category := by
  cases v with
  | ref k =>
    show (va_rf (jw_cr w ad (some k))).category = 1
    cases jw_cr w ad (some k) <;> rfl
  | _ => rfl
theorem jw_sa_ok {S : so_St} {a : Nat} (h : so_ok S a) : jw_sa S (a / 64) = a := by
  show 64 * (a / 64) + S.2.2.1 (a / 64) = a
  rw [h.2]
  omega
theorem jw_L_get {w : jw_W} {ad : Nat → Nat} {S : so_St} {a : Nat} (h : so_ok S a) (hk : 44 ≤ a / 64) : (jw_L w ad S)[a / 64 - 44]? = some (ad a, jw_E w ad (a % 64) (S.2.2.2 a)) := by
  have h1 : a / 64 - 44 < S.1 - 44 := by have := h.1; omega
  have h2 : 44 + (a / 64 - 44) = a / 64 := by omega
  rw [jw_L, List.getElem?_map, List.getElem?_range h1, Option.map_some, h2, jw_sa_ok h, h.2]
theorem jw_sa_inj {S : so_St} (hs : ∀ i, S.2.2.1 i < 64) {i a : Nat} (h : jw_sa S i = a) : i = a / 64 := by
  have h1 : 64 * i + S.2.2.1 i = a := h
  have h2 := hs i
  omega
theorem jw_L_set {w : jw_W} {ad : Nat → Nat} {S : so_St} {a : Nat} {c : so_Cel} (hs : ∀ i, S.2.2.1 i < 64) (h : so_ok S a) (hk : 44 ≤ a / 64) : (jw_L w ad S).set (a / 64 - 44) (ad a, jw_E w ad (a % 64) c) = jw_L w ad (so_up S a c) := by
  apply List.ext_getElem?
  intro i
  rw [List.getElem?_set]
  by_cases hi : i < S.1 - 44
  · have hl : (jw_L w ad S).length = S.1 - 44 := by simp [jw_L]
    have e2 : (jw_L w ad (so_up S a c))[i]? = some (ad (jw_sa S (44 + i)), jw_E w ad (S.2.2.1 (44 + i)) (if jw_sa S (44 + i) = a then c else S.2.2.2 (jw_sa S (44 + i)))) := by
      show ((List.range (S.1 - 44)).map _)[i]? = _
      rw [List.getElem?_map, List.getElem?_range hi]
      rfl
    rw [e2]
    by_cases hp : a / 64 - 44 = i
    · have h2 : 44 + i = a / 64 := by omega
      rw [if_pos hp, hl, if_pos (by omega), h2, jw_sa_ok h, if_pos rfl, h.2]
    · rw [if_neg hp, if_neg (fun q => hp (by have := jw_sa_inj hs q; omega)), jw_L, List.getElem?_map, List.getElem?_range hi]
      rfl
  · have n1 : (jw_L w ad S)[i]? = none := by
      apply List.getElem?_eq_none
      simp only [jw_L, List.length_map, List.length_range]
      omega
    have n2 : (jw_L w ad (so_up S a c))[i]? = none := by
      apply List.getElem?_eq_none
      simp only [jw_L, List.length_map, List.length_range]
      show S.1 - 44 ≤ i
      omega
    rw [n1, n2]
    have := h.1
    rw [if_neg (by omega)]
theorem jw_L_new {w : jw_W} {ad ad' : Nat → Nat} {S : so_St} {k len sz : Nat} (hs : ∀ i, S.2.2.1 i < 64) (h43 : 44 ≤ S.1) (hc : ∀ a j b, so_R S a j = some b → so_ok S b) (ha : ∀ a, so_ok S a → ad' a = ad a) : jw_L w ad' (so_new S k len sz) = jw_L w ad S ++ [(ad' (so_at S k), jw_E w ad' k (so_z len))] := by
  have e1 : (so_new S k len sz).1 - 44 = S.1 - 44 + 1 := by
    show S.1 + 1 - 44 = _
    omega
  have e9 : 44 + (S.1 - 44) = S.1 := by omega
  unfold jw_L
  rw [e1, List.range_succ, List.map_append]
  congr 1
  · apply List.map_congr_left
    intro i hi
    have hi : i < S.1 - 44 := List.mem_range.mp hi
    have k1 : (so_new S k len sz).2.2.1 (44 + i) = S.2.2.1 (44 + i) := if_neg (by omega)
    have k2 : jw_sa (so_new S k len sz) (44 + i) = jw_sa S (44 + i) := by
      show 64 * (44 + i) + (so_new S k len sz).2.2.1 (44 + i) = _
      rw [k1]
      rfl
    have ok : so_ok S (jw_sa S (44 + i)) := by
      have := hs (44 + i)
      have q1 : (64 * (44 + i) + S.2.2.1 (44 + i)) / 64 = 44 + i := by omega
      have q2 : (64 * (44 + i) + S.2.2.1 (44 + i)) % 64 = S.2.2.1 (44 + i) := by omega
      refine ⟨?_, ?_⟩
      · show (64 * (44 + i) + S.2.2.1 (44 + i)) / 64 < S.1
        omega
      · show S.2.2.1 ((64 * (44 + i) + S.2.2.1 (44 + i)) / 64) = (64 * (44 + i) + S.2.2.1 (44 + i)) % 64
        rw [q1, q2]
    have k3 : (so_new S k len sz).2.2.2 (jw_sa S (44 + i)) = S.2.2.2 (jw_sa S (44 + i)) := by
      refine if_neg (fun q => ?_)
      have h1 := jw_sa_inj hs q
      have h2 : so_at S k / 64 = (64 * S.1 + k) / 64 := rfl
      have h3 := ok.1
      have h4 : jw_sa S (44 + i) = 64 * S.1 + k := q
      omega
    rw [k2, k1, k3, ha _ ok, jw_E_same (fun j b hb => ha b (hc _ j b hb))]
  · simp only [List.map_cons, List.map_nil]
    rw [e9]
    have k1 : (so_new S k len sz).2.2.1 S.1 = k := if_pos rfl
    have k2 : jw_sa (so_new S k len sz) S.1 = so_at S k := by
      show 64 * S.1 + (so_new S k len sz).2.2.1 S.1 = _
      rw [k1]
      rfl
    have k3 : (so_new S k len sz).2.2.2 (so_at S k) = so_z len := if_pos rfl
    rw [k2, k1, k3]
