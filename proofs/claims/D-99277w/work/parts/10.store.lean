/-! BASE A: the abstract store. A reference is a number: 64 * (its serial number) + (its kind). Kinds: 0 .. 28 classes (jw_cl), 50 int[], 51 byte[], 52 boolean[], 53 long[], 54 Terrace[], 55 Object[], 56 int[][], 63 unknown. -/
set_option maxRecDepth 100000
abbrev so_Cel : Type := Nat × (Nat → Int32) × (Nat → Option Nat) × (Nat → Int64)
/-- how many cells, how many slots, the kinds by serial numbers, the cells by references -/
abbrev so_St : Type := Nat × Nat × (Nat → Nat) × (Nat → so_Cel)
def so_l (S : so_St) (a : Nat) : Nat := (S.2.2.2 a).1
def so_I (S : so_St) (a j : Nat) : Int32 := (S.2.2.2 a).2.1 j
def so_R (S : so_St) (a j : Nat) : Option Nat := (S.2.2.2 a).2.2.1 j
def so_L (S : so_St) (a j : Nat) : Int64 := (S.2.2.2 a).2.2.2 j
def so_up (S : so_St) (a : Nat) (c : so_Cel) : so_St := (S.1, S.2.1, S.2.2.1, fun b => if b = a then c else S.2.2.2 b)
def so_sI (S : so_St) (a j : Nat) (v : Int32) : so_St := so_up S a ((S.2.2.2 a).1, upd (S.2.2.2 a).2.1 j v, (S.2.2.2 a).2.2)
def so_sR (S : so_St) (a j : Nat) (r : Option Nat) : so_St := so_up S a ((S.2.2.2 a).1, (S.2.2.2 a).2.1, va_up (S.2.2.2 a).2.2.1 j r, (S.2.2.2 a).2.2.2)
def so_sL (S : so_St) (a j : Nat) (v : Int64) : so_St := so_up S a ((S.2.2.2 a).1, (S.2.2.2 a).2.1, (S.2.2.2 a).2.2.1, vp_updL (S.2.2.2 a).2.2.2 j v)
def so_z (len : Nat) : so_Cel := (len, fun _ => 0, fun _ => none, fun _ => 0)
/-- the reference that the next new cell of kind k gets -/
def so_at (S : so_St) (k : Nat) : Nat := 64 * S.1 + k
def so_new (S : so_St) (k len sz : Nat) : so_St := (S.1 + 1, S.2.1 + sz, fun i => if i = S.1 then k else S.2.2.1 i, fun b => if b = so_at S k then so_z len else S.2.2.2 b)
/-- arraycopy of ints (references) -/
def so_cpI (S : so_St) (a b sp dp n : Nat) : so_St := so_up S b ((S.2.2.2 b).1, va_cpy (S.2.2.2 a).2.1 (S.2.2.2 b).2.1 sp dp n, (S.2.2.2 b).2.2)
def so_cpR (S : so_St) (a b sp dp n : Nat) : so_St := so_up S b ((S.2.2.2 b).1, (S.2.2.2 b).2.1, va_cpy (S.2.2.2 a).2.2.1 (S.2.2.2 b).2.2.1 sp dp n, (S.2.2.2 b).2.2.2)
/-- new int[n][m] -/
def so_grid (S : so_St) (n m : Nat) : so_St := (S.1 + 1 + n, S.2.1 + n + n * m, fun i => if i = S.1 then 56 else if S.1 < i ∧ i ≤ S.1 + n then 50 else S.2.2.1 i,
  fun b => if b = 64 * S.1 + 56 then (n, fun _ => 0, fun j => if j < n then some (64 * (S.1 + 1 + j) + 50) else none, fun _ => 0) else if b % 64 = 50 ∧ S.1 < b / 64 ∧ b / 64 ≤ S.1 + n then so_z m else S.2.2.2 b)
/-- a reference of this store -/
def so_ok (S : so_St) (a : Nat) : Prop := a / 64 < S.1 ∧ S.2.2.1 (a / 64) = a % 64
/-- the store has grown -/
def so_Ext (S S' : so_St) : Prop := S.1 ≤ S'.1 ∧ S.2.1 ≤ S'.2.1 ∧ ∀ i, i < S.1 → S'.2.2.1 i = S.2.2.1 i
theorem so_Ext.rf (S : so_St) : so_Ext S S := ⟨Nat.le_refl _, Nat.le_refl _, fun _ _ => rfl⟩
theorem so_Ext.tr {A B C : so_St} (h : so_Ext A B) (g : so_Ext B C) : so_Ext A C := ⟨Nat.le_trans h.1 g.1, Nat.le_trans h.2.1 g.2.1, fun i hi => (g.2.2 i (Nat.lt_of_lt_of_le hi h.1)).trans (h.2.2 i hi)⟩
theorem so_ok.ext {A B : so_St} {a : Nat} (h : so_ok A a) (g : so_Ext A B) : so_ok B a := ⟨Nat.lt_of_lt_of_le h.1 g.1, (g.2.2 _ h.1).trans h.2⟩
theorem so_Ext.up (S : so_St) (a : Nat) (c : so_Cel) : so_Ext S (so_up S a c) := ⟨Nat.le_refl _, Nat.le_refl _, fun _ _ => rfl⟩
theorem so_Ext.new (S : so_St) (k len sz : Nat) : so_Ext S (so_new S k len sz) := ⟨Nat.le_succ _, Nat.le_add_right _ _, fun i hi => if_neg (Nat.ne_of_lt hi)⟩
theorem so_Ext.grid (S : so_St) (n m : Nat) : so_Ext S (so_grid S n m) := by
  refine ⟨?_, ?_, fun i hi => ?_⟩
  · show S.1 ≤ S.1 + 1 + n
    omega
  · show S.2.1 ≤ S.2.1 + n + n * m
    omega
  · show (if i = S.1 then 56 else if S.1 < i ∧ i ≤ S.1 + n then 50 else S.2.2.1 i) = S.2.2.1 i
    rw [if_neg (Nat.ne_of_lt hi), if_neg (fun h => absurd h.1 (by omega))]
theorem so_ok_new (S : so_St) {k : Nat} (hk : k < 64) (len sz : Nat) : so_ok (so_new S k len sz) (so_at S k) := by
  have h1 : (64 * S.1 + k) / 64 = S.1 := by omega
  have h2 : (64 * S.1 + k) % 64 = k := by omega
  refine ⟨?_, ?_⟩
  · show (64 * S.1 + k) / 64 < S.1 + 1
    omega
  · show (if (64 * S.1 + k) / 64 = S.1 then k else _) = (64 * S.1 + k) % 64
    rw [if_pos h1, h2]
/-- bindings that keep a name -/
def so_let {ρ : Type} (e : so_St) (k : so_St → Option ρ) : Option ρ := k e
theorem so_let_e {ρ : Type} {e : so_St} {k : so_St → Option ρ} {r : ρ} {P : so_St → Prop} (h : so_let e k = some r) (g : ∀ S1, k S1 = some r → P S1) : P e := g e h
theorem so_b {α ρ : Type} {x : Option α} {k : α → Option ρ} {r : ρ} (h : x.bind k = some r) : ∃ v, x = some v ∧ k v = some r := by
  cases x with
  | none => cases h
  | some v => exact ⟨v, rfl, h⟩
theorem so_t {ρ : Type} {c : Prop} {i : Decidable c} {a b r : ρ} (hc : c) (h : (if c then a else b) = r) : a = r := by rwa [if_pos hc] at h
theorem so_f {ρ : Type} {c : Prop} {i : Decidable c} {a b r : ρ} (hc : ¬ c) (h : (if c then a else b) = r) : b = r := by rwa [if_neg hc] at h
/-- a guard -/
theorem so_g {ρ : Type} {c : Prop} {i : Decidable c} {a : Option ρ} {r : ρ} (h : (if c then a else none) = some r) : c ∧ a = some r := by
  by_cases hc : c
  · exact ⟨hc, so_t hc h⟩
  · have := so_f hc h
    cases this
/-- a branch that is taken on one side alone -/
theorem so_gn {ρ : Type} {c : Prop} {i : Decidable c} {a : Option ρ} {r : ρ} (h : (if c then none else a) = some r) : ¬ c ∧ a = some r := by
  by_cases hc : c
  · have := so_t hc h
    cases this
  · exact ⟨hc, so_f hc h⟩
