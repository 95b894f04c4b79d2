/-! BASE L: what the printed functions and walks are made of -/
set_option maxRecDepth 100000
/-- every loop's fuel -/
def so_N : Nat := 100000
/-- a reference that isn't null, of one of the kinds ks -/
def so_rk (r : Option Nat) (ks : List Nat) : Option Nat := match r with
  | none => none
  | some a => if a % 64 ∈ ks then some a else none
theorem so_rk_s {r : Option Nat} {ks : List Nat} {a : Nat} (h : so_rk r ks = some a) : r = some a ∧ a % 64 ∈ ks := by
  cases r with
  | none => cases h
  | some b =>
    have h : (if b % 64 ∈ ks then some b else none) = some a := h
    by_cases c : b % 64 ∈ ks
    · rw [if_pos c] at h
      cases h
      exact ⟨rfl, c⟩
    · rw [if_neg c] at h
      cases h
/-- a guard -/
def so_gd {ρ : Type} (b : Bool) (k : Unit → Option ρ) : Option ρ := if b = true then k () else none
theorem so_gdE {ρ : Type} {b : Bool} {k : Unit → Option ρ} {r : ρ} (h : so_gd b k = some r) : b = true ∧ k () = some r := so_g h
def so_in (i : Int32) (n : Nat) : Bool := decide (¬ (i < 0 ∨ n ≤ i.toNatClampNeg))
theorem so_inE {i : Int32} {n : Nat} (h : so_in i n = true) : vp_in i n := by
  have h : ¬ (i < 0 ∨ n ≤ i.toNatClampNeg) := of_decide_eq_true h
  exact h
def so_ne0 (x : Int32) : Bool := !decide (x = 0)
theorem so_ne0E {x : Int32} (h : so_ne0 x = true) : ¬ x = 0 := fun e => by rw [so_ne0, decide_eq_true e] at h; cases h
def so_ne0L (x : Int64) : Bool := !decide (x = 0)
theorem so_ne0LE {x : Int64} (h : so_ne0L x = true) : ¬ x = 0 := fun e => by rw [so_ne0L, decide_eq_true e] at h; cases h
def so_big (a : Nat) : Bool := Nat.ble 44 (a / 64)
theorem so_bigE {a : Nat} (h : so_big a = true) : 44 ≤ a / 64 := Nat.le_of_ble_eq_true h
def so_01 (x : Int32) : Bool := decide (x = 0 ∨ x = 1)
theorem so_01E {x : Int32} (h : so_01 x = true) : x = 0 ∨ x = 1 := of_decide_eq_true h
theorem so_01n {x : Int32} (h : x = 0 ∨ x = 1) : narrow .boolean (.int x) = .int x := by rcases h with rfl | rfl <;> rfl
theorem so_01f {x : Int32} (h : x = 0 ∨ x = 1) : fits .boolean (.int x) = true := by rcases h with rfl | rfl <;> rfl
def so_nb (x : Int32) : Bool := decide (x.toInt8.toInt32 = x)
theorem so_nbE {x : Int32} (h : so_nb x = true) : narrow .byte (.int x) = .int x ∧ fits .byte (.int x) = true := by
  have h : x.toInt8.toInt32 = x := of_decide_eq_true h
  rw [← h]
  exact ⟨pk_nb x, pk_fb x⟩
/-- a length that newarray takes -/
def so_len (n : Int32) : Bool := decide (¬ n < 0 ∧ n.toNatClampNeg ≤ 100000)
theorem so_lenE {n : Int32} (h : so_len n = true) : ¬ n < 0 ∧ n.toNatClampNeg ≤ 100000 := of_decide_eq_true h
/-- what arraycopy asks -/
def so_cp (sp dp n : Int32) (la lb : Nat) : Bool := decide (¬ sp < 0 ∧ ¬ dp < 0 ∧ ¬ n < 0 ∧ sp.toNatClampNeg + n.toNatClampNeg ≤ la ∧ dp.toNatClampNeg + n.toNatClampNeg ≤ lb)
theorem so_cpE {sp dp n : Int32} {la lb : Nat} (h : so_cp sp dp n la lb = true) : ¬ sp < 0 ∧ ¬ dp < 0 ∧ ¬ n < 0 ∧ sp.toNatClampNeg + n.toNatClampNeg ≤ la ∧ dp.toNatClampNeg + n.toNatClampNeg ≤ lb := of_decide_eq_true h
def so_kdb (S : so_St) (a sp n : Nat) (ks : List Nat) : Bool := (List.range n).all (fun i => match so_R S a (sp + i) with | none => true | some b => decide (b % 64 ∈ ks))
theorem so_kdbE {S : so_St} {a sp n : Nat} {ks : List Nat} (h : so_kdb S a sp n ks = true) : so_kds S a sp n ks := fun i hi b e => by
  have h1 := List.all_eq_true.mp h i (List.mem_range.mpr hi)
  rw [e] at h1
  exact of_decide_eq_true h1
/-- a call that changes the store -/
def so_b2 {α ρ : Type} (x : Option (α × so_St)) (k : α → so_St → Option ρ) : Option ρ := x.bind fun q => k q.1 q.2
theorem so_b2E {α ρ : Type} {x : Option (α × so_St)} {k : α → so_St → Option ρ} {r : ρ} (h : so_b2 x k = some r) : ∃ v S1, x = some (v, S1) ∧ k v S1 = some r := by
  obtain ⟨⟨v, S1⟩, h1, h2⟩ := so_b h
  exact ⟨v, S1, h1, h2⟩
/-- a call that may throw -/
def so_b3 {α ρ : Type} (x : Option ((α ⊕ Nat) × so_St)) (k : α → so_St → Option ρ) (kx : Nat → so_St → Option ρ) : Option ρ := match x with
  | none => none
  | some (.inl v, S1) => k v S1
  | some (.inr a, S1) => kx a S1
theorem so_b3E {α ρ : Type} {x : Option ((α ⊕ Nat) × so_St)} {k : α → so_St → Option ρ} {kx : Nat → so_St → Option ρ} {r : ρ} (h : so_b3 x k kx = some r) : (∃ v S1, x = some (.inl v, S1) ∧ k v S1 = some r) ∨ (∃ a S1, x = some (.inr a, S1) ∧ kx a S1 = some r) := by
  match x, h with
  | none, h => cases h
  | some (.inl v, S1), h => exact Or.inl ⟨v, S1, rfl, h⟩
  | some (.inr a, S1), h => exact Or.inr ⟨a, S1, rfl, h⟩
/-- a place where branches meet -/
def so_j {κ ρ : Type} (k : κ) (f : κ → ρ) : ρ := f k
theorem so_jE {κ ρ : Type} {k : κ} {f : κ → ρ} {r : ρ} {Q : Prop} (h : so_j k f = r) (P : κ → Prop) (h1 : P k) (h2 : ∀ J, P J → f J = r → Q) : Q := h2 k h1 h
theorem so_e2 {α β : Type} {a c : α} {b e : β} (h : some (a, b) = some (c, e)) : a = c ∧ b = e := by
  cases h
  exact ⟨rfl, rfl⟩
theorem so_e1 {α : Type} {a b : α} (h : some a = some b) : a = b := Option.some.inj h
theorem so_no {ρ : Type} {r : ρ} {P : Prop} (h : none = some r) : P := by cases h
theorem so_ms {n : Nat} {ks ks' : List Nat} (h : n ∈ ks) (hs : ks.all (fun k => ks'.contains k) = true) : n ∈ ks' := by
  have := List.all_eq_true.mp hs n h
  simpa using this
theorem so_dj {n : Nat} {ks ks' : List Nat} (h : n ∈ ks) (h' : n ∈ ks') (hs : ks.all (fun k => !ks'.contains k) = true) : False := by
  have := List.all_eq_true.mp hs n h
  simp [h'] at this
/-- null or not -/
def so_nn {ρ : Type} (r : Option Nat) (ks : List Nat) (A B : Option ρ) : Option ρ := match r with
  | none => B
  | some a => if a % 64 ∈ ks then A else none
theorem so_nnE {ρ : Type} {r : Option Nat} {ks : List Nat} {A B : Option ρ} {x : ρ} (h : so_nn r ks A B = some x) : (∀ a, r = some a → a % 64 ∈ ks) ∧ (∀ a, r = some a → A = some x) ∧ (r = none → B = some x) := by
  cases r with
  | none => exact ⟨fun _ e => (by cases e), fun _ e => (by cases e), fun _ => h⟩
  | some b =>
    obtain ⟨h1, h2⟩ := so_g h
    exact ⟨fun a e => (by cases e; exact h1), fun _ _ => h2, fun e => (by cases e)⟩
theorem so_n63 {n : Nat} {ks : List Nat} (h : n ∈ ks) (hs : ks.all (fun k => !Nat.beq k 63) = true) : n ≠ 63 := fun e => by
  have := List.all_eq_true.mp hs n h
  rw [e] at this
  cases this
theorem so_nn63 {r : Option Nat} {ks : List Nat} (h : ∀ a, r = some a → a % 64 ∈ ks) (hs : ks.all (fun k => !Nat.beq k 63) = true) : ∀ a, r = some a → a % 64 ≠ 63 := fun a e => so_n63 (h a e) hs
theorem so_m1 {n k : Nat} (h : n ∈ [k]) : n = k := List.mem_singleton.mp h
theorem so_i1 {n k : Nat} (h : n = k) : n ∈ [k] := List.mem_singleton.mpr h
theorem so_l29 {n : Nat} {ks : List Nat} (h : n ∈ ks) (hs : ks.all (fun k => Nat.blt k 29 && !Nat.beq k 26) = true) : n < 29 ∧ n ≠ 26 := by
  have := List.all_eq_true.mp hs n h
  rw [Bool.and_eq_true] at this
  exact ⟨Nat.le_of_ble_eq_true this.1, fun e => by have g := this.2; rw [e] at g; cases g⟩
theorem so_n26 {ks : List Nat} {P : Prop} (h : ks.contains 26 = false) : 26 ∈ ks → P := fun g => by
  have : ks.contains 26 = true := by simpa using g
  rw [this] at h
  cases h
theorem so_n26' {ks : List Nat} (h : ks.contains 26 = false) : 26 ∉ ks := fun g => so_n26 h g
theorem so_atk {S : so_St} {k : Nat} (hk : Nat.blt k 64 = true) : so_at S k % 64 ∈ [k] := by
  have : k < 64 := Nat.le_of_ble_eq_true hk
  refine List.mem_singleton.mpr ?_
  show (64 * S.1 + k) % 64 = k
  omega
abbrev so_le {a b : Nat} (h : Nat.ble a b = true) : a ≤ b := Nat.le_of_ble_eq_true h
def so_oi (r : Int32 ⊕ Nat) : Option Value ⊕ Nat := match r with
  | .inl v => .inl (some (.int v))
  | .inr a => .inr a
def so_ol (r : Int64 ⊕ Nat) : Option Value ⊕ Nat := match r with
  | .inl v => .inl (some (.long v))
  | .inr a => .inr a
def so_or (r : Nat ⊕ Nat) : Option Value ⊕ Nat := match r with
  | .inl v => .inl (some (.ref v))
  | .inr a => .inr a
def so_ov (r : Unit ⊕ Nat) : Option Value ⊕ Nat := match r with
  | .inl _ => .inl none
  | .inr a => .inr a
section JS
variable {T : jx_T} {K : jx_K} {pc : Nat} {lv lv' : List (Nat × Value)} {st st' : List Value} {S S1 : so_St}
theorem jr_lcmp {x y : Int64} (hd : decode K.1 pc = .ok (.lcmp, 1)) (k : jg_ T K (pc + 1) lv (.int (lg_cmp x y) :: st) S) : jg_ T K pc lv (.long y :: .long x :: st) S :=
  jr_pure (fun h => jo_c jo_i h.t.t) (fun _ hC _ _ _ _ _ _ _ kk => W.lcmp hC.x hC.b hd kk) k
/-- the top of the stack is known to be a reference -/
theorem jr_rf {r : Option Nat} {a : Nat} (h : r = some a) (k : jg_ T K pc lv (.ref a :: st) S) : jg_ T K pc lv (va_rf r :: st) S := by
  subst h
  exact k
theorem jr_acmpM2 {a b : Nat} {off : Int} {tgt : Nat} (ha : a = 2751) (hb : b = 2751) (hd : decode K.1 pc = .ok (.if_acmp .ne off, 3)) (ht : (pc : Int) + off = (tgt : Int)) (k : jg_ T K (pc + 3) lv st S) : jg_ T K pc lv (.ref b :: .ref a :: st) S := by
  subst ha
  subst hb
  exact jr_acmpM hd ht k
/-- another way to write the state -/
theorem jr_sti {x y : Int32} (h : x = y) (k : jg_ T K pc lv (.int y :: st) S) : jg_ T K pc lv (.int x :: st) S := by
  subst h
  exact k
/-- a virtual call: links for every kind of the receiver -/
theorem jr_callM {ins : Instr} {y : MethodName} {ws : List Cond} {n d' a : Nat} {ks : List Nat} {vs stk : List Value} {v : Option Value} (hL : ∀ k ∈ ks, jk_ K.2.2.1 ins y ws (2, jw_nm k) n) (hS : jx_Sp d' y ws (.ref a :: vs) S (.inl v) S1) (hk : a % 64 ∈ ks) (hks : ks.all (fun k => Nat.blt k 29 && !Nat.beq k 26) = true) (hst : stk = (.ref a :: vs).reverse ++ st) (hn : vs.length + 1 = n) (hcat : (st.map fun v => v.category).sum ≤ 8) (hdd : d' + 1 ≤ K.2.2.2.1) (hd : decode K.1 pc = .ok (ins, 3)) (k : jg_ T K (pc + 3) lv (v.toList ++ st) S1) : jg_ T K pc lv stk S := by
  obtain ⟨h29, h26⟩ := so_l29 hk hks
  have hq : ∃ q, jw_cl[a % 64]? = some q := ⟨jw_cl[a % 64]'(by show a % 64 < 29; exact h29), List.getElem?_eq_getElem _⟩
  obtain ⟨q, hq⟩ := hq
  exact jr_call (hL _ hk) hS ⟨a, vs, q, rfl, h29, hq, by show q.1 = jw_nm (a % 64); unfold jw_nm; rw [hq], fun e => absurd e h26⟩ hst hn hcat hdd hd k
theorem jr_callMX {ins : Instr} {y : MethodName} {ws : List Cond} {n d' a x : Nat} {ks : List Nat} {vs stk : List Value} (hL : ∀ k ∈ ks, jk_ K.2.2.1 ins y ws (2, jw_nm k) n) (hS : jx_Sp d' y ws (.ref a :: vs) S (.inr x) S1) (hk : a % 64 ∈ ks) (hks : ks.all (fun k => Nat.blt k 29 && !Nat.beq k 26) = true) (hst : stk = (.ref a :: vs).reverse ++ st) (hn : vs.length + 1 = n) (hcat : (st.map fun v => v.category).sum ≤ 8) (hdd : d' + 1 ≤ K.2.2.2.1) (hd : decode K.1 pc = .ok (ins, 3)) (k : jg_x T K pc lv x S1) : jg_ T K pc lv stk S := by
  obtain ⟨h29, h26⟩ := so_l29 hk hks
  have hq : ∃ q, jw_cl[a % 64]? = some q := ⟨jw_cl[a % 64]'(by show a % 64 < 29; exact h29), List.getElem?_eq_getElem _⟩
  obtain ⟨q, hq⟩ := hq
  exact jr_callX (hL _ hk) hS ⟨a, vs, q, rfl, h29, hq, by show q.1 = jw_nm (a % 64); unfold jw_nm; rw [hq], fun e => absurd e h26⟩ hst hn hcat hdd hd k
/-- a virtual call whose method depends on the receiver's kind -/
def jx_VS (own : String) (ins : Instr) (n D a : Nat) (vs : List Value) (S : so_St) (out : Option Value ⊕ Nat) (S1 : so_St) : Prop := a % 64 < 29 ∧ a % 64 ≠ 26 ∧ ∃ (d' : Nat) (y : MethodName) (ws : List Cond), jk_ own ins y ws (2, jw_nm (a % 64)) n ∧ jx_Sp d' y ws (.ref a :: vs) S out S1 ∧ d' + 1 ≤ D
theorem jr_callD {ins : Instr} {n a D : Nat} {vs stk : List Value} {v : Option Value} (hD : jx_VS K.2.2.1 ins n D a vs S (.inl v) S1) (hDD : D ≤ K.2.2.2.1) (hst : stk = (.ref a :: vs).reverse ++ st) (hn : vs.length + 1 = n) (hcat : (st.map fun v => v.category).sum ≤ 8) (hd : decode K.1 pc = .ok (ins, 3)) (k : jg_ T K (pc + 3) lv (v.toList ++ st) S1) : jg_ T K pc lv stk S := by
  obtain ⟨h29, h26, d', y, ws, hL, hS, hdd⟩ := hD
  have hq : ∃ q, jw_cl[a % 64]? = some q := ⟨jw_cl[a % 64]'(by show a % 64 < 29; exact h29), List.getElem?_eq_getElem _⟩
  obtain ⟨q, hq⟩ := hq
  exact jr_call hL hS ⟨a, vs, q, rfl, h29, hq, by show q.1 = jw_nm (a % 64); unfold jw_nm; rw [hq], fun e => absurd e h26⟩ hst hn hcat (Nat.le_trans hdd hDD) hd k
end JS
theorem ic_m1 : Int32.ofInt (-1) = (-1 : Int32) := by decide
theorem ic_0 : Int32.ofInt (0) = (0 : Int32) := by decide
theorem ic_1 : Int32.ofInt (1) = (1 : Int32) := by decide
theorem ic_2 : Int32.ofInt (2) = (2 : Int32) := by decide
theorem ic_3 : Int32.ofInt (3) = (3 : Int32) := by decide
theorem ic_4 : Int32.ofInt (4) = (4 : Int32) := by decide
theorem ic_5 : Int32.ofInt (5) = (5 : Int32) := by decide
theorem bp_m100 : (Int8.ofInt (-100)).toInt32 = (-100 : Int32) := by decide
theorem bp_m20 : (Int8.ofInt (-20)).toInt32 = (-20 : Int32) := by decide
theorem bp_m10 : (Int8.ofInt (-10)).toInt32 = (-10 : Int32) := by decide
theorem bp_m9 : (Int8.ofInt (-9)).toInt32 = (-9 : Int32) := by decide
theorem bp_6 : (Int8.ofInt (6)).toInt32 = (6 : Int32) := by decide
theorem bp_7 : (Int8.ofInt (7)).toInt32 = (7 : Int32) := by decide
theorem bp_8 : (Int8.ofInt (8)).toInt32 = (8 : Int32) := by decide
theorem bp_9 : (Int8.ofInt (9)).toInt32 = (9 : Int32) := by decide
theorem bp_10 : (Int8.ofInt (10)).toInt32 = (10 : Int32) := by decide
theorem bp_11 : (Int8.ofInt (11)).toInt32 = (11 : Int32) := by decide
theorem bp_12 : (Int8.ofInt (12)).toInt32 = (12 : Int32) := by decide
theorem bp_13 : (Int8.ofInt (13)).toInt32 = (13 : Int32) := by decide
theorem bp_14 : (Int8.ofInt (14)).toInt32 = (14 : Int32) := by decide
theorem bp_15 : (Int8.ofInt (15)).toInt32 = (15 : Int32) := by decide
theorem bp_16 : (Int8.ofInt (16)).toInt32 = (16 : Int32) := by decide
theorem bp_18 : (Int8.ofInt (18)).toInt32 = (18 : Int32) := by decide
theorem bp_19 : (Int8.ofInt (19)).toInt32 = (19 : Int32) := by decide
theorem bp_20 : (Int8.ofInt (20)).toInt32 = (20 : Int32) := by decide
theorem bp_21 : (Int8.ofInt (21)).toInt32 = (21 : Int32) := by decide
theorem bp_23 : (Int8.ofInt (23)).toInt32 = (23 : Int32) := by decide
theorem bp_24 : (Int8.ofInt (24)).toInt32 = (24 : Int32) := by decide
theorem bp_25 : (Int8.ofInt (25)).toInt32 = (25 : Int32) := by decide
theorem bp_27 : (Int8.ofInt (27)).toInt32 = (27 : Int32) := by decide
theorem bp_31 : (Int8.ofInt (31)).toInt32 = (31 : Int32) := by decide
theorem bp_32 : (Int8.ofInt (32)).toInt32 = (32 : Int32) := by decide
theorem bp_37 : (Int8.ofInt (37)).toInt32 = (37 : Int32) := by decide
theorem bp_40 : (Int8.ofInt (40)).toInt32 = (40 : Int32) := by decide
theorem bp_41 : (Int8.ofInt (41)).toInt32 = (41 : Int32) := by decide
theorem bp_42 : (Int8.ofInt (42)).toInt32 = (42 : Int32) := by decide
theorem bp_43 : (Int8.ofInt (43)).toInt32 = (43 : Int32) := by decide
theorem bp_44 : (Int8.ofInt (44)).toInt32 = (44 : Int32) := by decide
theorem bp_45 : (Int8.ofInt (45)).toInt32 = (45 : Int32) := by decide
theorem bp_47 : (Int8.ofInt (47)).toInt32 = (47 : Int32) := by decide
theorem bp_48 : (Int8.ofInt (48)).toInt32 = (48 : Int32) := by decide
theorem bp_50 : (Int8.ofInt (50)).toInt32 = (50 : Int32) := by decide
theorem bp_57 : (Int8.ofInt (57)).toInt32 = (57 : Int32) := by decide
theorem bp_59 : (Int8.ofInt (59)).toInt32 = (59 : Int32) := by decide
theorem bp_60 : (Int8.ofInt (60)).toInt32 = (60 : Int32) := by decide
theorem bp_61 : (Int8.ofInt (61)).toInt32 = (61 : Int32) := by decide
theorem bp_63 : (Int8.ofInt (63)).toInt32 = (63 : Int32) := by decide
theorem bp_80 : (Int8.ofInt (80)).toInt32 = (80 : Int32) := by decide
theorem bp_86 : (Int8.ofInt (86)).toInt32 = (86 : Int32) := by decide
theorem bp_91 : (Int8.ofInt (91)).toInt32 = (91 : Int32) := by decide
theorem bp_92 : (Int8.ofInt (92)).toInt32 = (92 : Int32) := by decide
theorem bp_93 : (Int8.ofInt (93)).toInt32 = (93 : Int32) := by decide
theorem bp_96 : (Int8.ofInt (96)).toInt32 = (96 : Int32) := by decide
theorem bp_97 : (Int8.ofInt (97)).toInt32 = (97 : Int32) := by decide
theorem bp_98 : (Int8.ofInt (98)).toInt32 = (98 : Int32) := by decide
theorem bp_99 : (Int8.ofInt (99)).toInt32 = (99 : Int32) := by decide
theorem bp_100 : (Int8.ofInt (100)).toInt32 = (100 : Int32) := by decide
theorem bp_108 : (Int8.ofInt (108)).toInt32 = (108 : Int32) := by decide
theorem bp_110 : (Int8.ofInt (110)).toInt32 = (110 : Int32) := by decide
theorem bp_117 : (Int8.ofInt (117)).toInt32 = (117 : Int32) := by decide
theorem bp_122 : (Int8.ofInt (122)).toInt32 = (122 : Int32) := by decide
theorem sp_150 : (Int16.ofInt (150)).toInt32 = (150 : Int32) := by decide
theorem sp_160 : (Int16.ofInt (160)).toInt32 = (160 : Int32) := by decide
theorem sp_200 : (Int16.ofInt (200)).toInt32 = (200 : Int32) := by decide
theorem sp_255 : (Int16.ofInt (255)).toInt32 = (255 : Int32) := by decide
theorem sp_500 : (Int16.ofInt (500)).toInt32 = (500 : Int32) := by decide
theorem sp_600 : (Int16.ofInt (600)).toInt32 = (600 : Int32) := by decide
theorem sp_900 : (Int16.ofInt (900)).toInt32 = (900 : Int32) := by decide
theorem sp_999 : (Int16.ofInt (999)).toInt32 = (999 : Int32) := by decide
theorem sp_1701 : (Int16.ofInt (1701)).toInt32 = (1701 : Int32) := by decide
theorem sp_12345 : (Int16.ofInt (12345)).toInt32 = (12345 : Int32) := by decide
theorem sp_32767 : (Int16.ofInt (32767)).toInt32 = (32767 : Int32) := by decide
theorem lc_0 : Int64.ofNat ((0 : Fin 2) : Nat) = (0 : Int64) := by decide
theorem lc_1 : Int64.ofNat ((1 : Fin 2) : Nat) = (1 : Int64) := by decide
