/-! BASE C: the judgement jg_ (a frame over the abstract store comes to the method's end) and its rows -/
set_option maxRecDepth 100000
abbrev jx_Z : Type := Program × Launch × Env × Room × State × MethodId × Array Value × List Frame × Method × Code × jw_W × (Nat → Nat)
/-- store at the start, store at the end, what comes back (.inl: returned, .inr: thrown) -/
abbrev jx_T : Type := so_St × so_St × (Option Value ⊕ Nat)
abbrev jx_p (z : jx_Z) : Program := z.1
abbrev jx_l (z : jx_Z) : Launch := z.2.1
abbrev jx_e (z : jx_Z) : Env := z.2.2.1
abbrev jx_R (z : jx_Z) : Room := z.2.2.2.1
abbrev jx_s (z : jx_Z) : State := z.2.2.2.2.1
abbrev jx_m (z : jx_Z) : MethodId := z.2.2.2.2.2.1
abbrev jx_a (z : jx_Z) : Array Value := z.2.2.2.2.2.2.1
abbrev jx_b (z : jx_Z) : List Frame := z.2.2.2.2.2.2.2.1
abbrev jx_h (z : jx_Z) : Method := z.2.2.2.2.2.2.2.2.1
abbrev jx_c (z : jx_Z) : Code := z.2.2.2.2.2.2.2.2.2.1
abbrev jx_w (z : jx_Z) : jw_W := z.2.2.2.2.2.2.2.2.2.2.1
abbrev jx_d (z : jx_Z) : Nat → Nat := z.2.2.2.2.2.2.2.2.2.2.2
abbrev jx_W (z : jx_Z) (H : Heap) (locs : List Loc) (k u : Nat) (Q : State → Prop) (g : JFrame) : Prop := W (jx_p z) (jx_l z) (jx_e z) (jx_R z) (jx_s z) (jx_m z) (jx_a z) (jx_b z) (jx_h z) (jx_c z) H locs k u Q g
abbrev jx_V (z : jx_Z) (H : Heap) (locs : List Loc) (k u : Nat) (Q : State → Prop) (g : JFrame) (q : Addr) : Prop := vx_W (jx_p z) (jx_l z) (jx_e z) (jx_R z) (jx_s z) (jx_m z) (jx_a z) (jx_b z) (jx_h z) (jx_c z) H locs k u Q g q
def jx_rm (d mc ms : Nat) : Room := { frames := d, cells := mc, slots := ms, locals := 64 * d }
/-- a value's reference is one of the store's -/
def jo_v (S : so_St) (v : Value) : Prop := ∀ a, v = .ref a → so_ok S a
theorem jo_v.ext {S S' : so_St} {v : Value} (h : jo_v S v) (g : so_Ext S S') : jo_v S' v := fun a e => (h a e).ext g
theorem jo_i {S : so_St} {x : Int32} : jo_v S (.int x) := fun _ e => by cases e
theorem jo_l {S : so_St} {x : Int64} : jo_v S (.long x) := fun _ e => by cases e
theorem jo_n {S : so_St} : jo_v S .null := fun _ e => by cases e
theorem jo_r {S : so_St} {a : Nat} (h : so_ok S a) : jo_v S (.ref a) := fun _ e => by cases e; exact h
theorem jo_rf {S : so_St} {r : Option Nat} (h : ∀ a, r = some a → so_ok S a) : jo_v S (va_rf r) := fun a e => by
  cases r with
  | none => cases e
  | some b => cases e; exact h _ rfl
def jo_s (S : so_St) (st : List Value) : Prop := ∀ v ∈ st, jo_v S v
theorem jo_s.ext {S S' : so_St} {st : List Value} (h : jo_s S st) (g : so_Ext S S') : jo_s S' st := fun v hv => (h v hv).ext g
theorem jo_c {S : so_St} {v : Value} {st : List Value} (h : jo_v S v) (t : jo_s S st) : jo_s S (v :: st) := fun x hx => (List.mem_cons.mp hx).elim (fun e => e ▸ h) (t x)
theorem jo_0 {S : so_St} : jo_s S [] := fun _ h => by cases h
theorem jo_s.h {S : so_St} {v : Value} {st : List Value} (h : jo_s S (v :: st)) : jo_v S v := h v List.mem_cons_self
theorem jo_s.t {S : so_St} {v : Value} {st : List Value} (h : jo_s S (v :: st)) : jo_s S st := fun x hx => h x (List.mem_cons_of_mem _ hx)
theorem jo_app {S : so_St} {a b : List Value} (h : jo_s S a) (t : jo_s S b) : jo_s S (a ++ b) := fun x hx => (List.mem_append.mp hx).elim (h x) (t x)
def jo_lv (S : so_St) (lv : List (Nat × Value)) : Prop := ∀ q ∈ lv, jo_v S q.2
theorem jo_lv.ext {S S' : so_St} {lv : List (Nat × Value)} (h : jo_lv S lv) (g : so_Ext S S') : jo_lv S' lv := fun v hv => (h v hv).ext g
/-- the name of a kind's class -/
def jw_nm (k : Nat) : String := match jw_cl[k]? with
  | some q => q.1
  | none => ""
def jw_Q (w : jw_W) (ad : Nat → Nat) (S S' : so_St) (out : Option Value ⊕ Nat) : Array Value → State → Outcome → State → Prop := fun _ st o t =>
  ∃ ad' : Nat → Nat, (∀ a, so_ok S a → ad' a = ad a) ∧ (∃ v, out = .inl v ∧ o = .returned (v.map (jw_v w ad')) ∧ ∀ x, v = some x → jo_v S' x) ∧ jw_H w ad' S' t.heap ∧ va_F (jw_A w) st t
def jw_X (w : jw_W) (ad : Nat → Nat) (S S' : so_St) (out : Option Value ⊕ Nat) : Addr → String → State → State → Prop := fun q E st t =>
  ∃ ad' : Nat → Nat, (∀ a, so_ok S a → ad' a = ad a) ∧ (∃ a, out = .inr a ∧ q = ad' a ∧ so_ok S' a ∧ 44 ≤ a / 64 ∧ a % 64 < 29 ∧ E = jw_nm (a % 64)) ∧ jw_H w ad' S' t.heap ∧ va_F (jw_A w) st t
/-- what holds at a place of a walk -/
def jg_in (z : jx_Z) (T : jx_T) (nL : Nat) (lv : List (Nat × Value)) (st : List Value) (S : so_St) (ad : Nat → Nat) (H : Heap) (locs : List Loc) (ls : Array Slot) (k u : Nat) : Prop :=
  jw_H (jx_w z) ad S H ∧ (∀ a, so_ok T.1 a → ad a = jx_d z a) ∧ va_S (jw_A (jx_w z)) (jx_s z).heap H locs ∧ lv_has ls nL (lv.map (jw_lv (jx_w z) ad)) ∧ jo_lv S lv ∧ jo_s S st ∧ k + T.1.1 = S.1 ∧ u + T.1.2.1 = S.2.1 ∧ so_Ext T.1 S
def jx_Q (z : jx_Z) (T : jx_T) : State → Prop := vx_MQ (jx_b z) (jw_Q (jx_w z) (jx_d z) T.1 T.2.1 T.2.2) (jw_X (jx_w z) (jx_d z) T.1 T.2.1 T.2.2) (jx_a z) (jx_s z) (T.2.1.1 - T.1.1) (T.2.1.2.1 - T.1.2.1) (jw_A (jx_w z))
/-- the facts of the tables and the constants -/
def jw_isN : Cond → Bool
  | .fieldLinkNest _ _ _ _ _ _ => true
  | .methodLinkNest _ _ _ _ => true
  | .castable _ _ => true
  | .arrayOver _ => true
  | .declares _ => true
  | _ => false
theorem jw_ao {ty : FieldType} {A A' : Array Value} {u U : State} (hv : u.vm = U.vm) (h : (Cond.arrayOver ty).before A u = true) : (Cond.arrayOver ty).before A' U = true := by
  simp only [Cond.before, Cond.holds, Cond.value] at h ⊢
  rw [← hv]
  exact h
theorem jw_isN_warm {x : Cond} {s U : State} (hx : jw_isN x = true) (hW : s.WarmedH U.vm) (h : va_Nw x s) : va_Nw x U := by
  cases x with
  | fieldLinkNest a i b n d h0 => exact va_Nw.warmF hW h
  | methodLinkNest a i x h0 => exact va_Nw.warmM hW h
  | castable C T => exact va_Nw.warmC hW h
  | arrayOver ty => exact jw_ao (u := s.setVm U.vm) rfl (by rw [Cond.arrayOver_setVmC hW.alike]; exact h)
  | declares x => exact va_Nw.warmD hW h
  | _ => cases hx
/-- a private method of a class above, chosen for a StringBuilder -/
def jw_sp : Cond := .selects "java/lang/StringBuilder" ⟨"java/lang/AbstractStringBuilder", "ensureCapacityInternal", "(I)V"⟩ ⟨"java/lang/AbstractStringBuilder", "ensureCapacityInternal", "(I)V"⟩
def jw_U (w : jw_W) (ad : Nat → Nat) (U : State) (H : Heap) : Prop :=
  va_K w.1 jw_cl (jw_ty w) U ∧ (∀ x ∈ lw_tbl, jw_isN x = true → va_Nw x U) ∧ va_AO "TunedHouses$Terrace" U ∧ va_AO "java/lang/Object" U ∧ va_Nc "java/lang/IllegalArgumentException" "java/util/NoSuchElementException" U ∧
  va_Z "java/lang/String" "COMPACT_STRINGS" "Z" (.int 1) (jw_A w) U H ∧ va_Z Bundle.tN "UNASSIGNED_STACK" Bundle.steD (va_rf w.2.2.2.1) (jw_A w) U H ∧ va_Z Bundle.tN "SUPPRESSED_SENTINEL" Bundle.listD (va_rf w.2.2.2.2.1) (jw_A w) U H ∧
  vx_L Bundle.tN "UNASSIGNED_STACK" Bundle.steD (jw_A w) U H ∧ vx_L Bundle.tN "SUPPRESSED_SENTINEL" Bundle.listD (jw_A w) U H ∧ va_Mi "[Ljava/lang/Object;" (ad 2751) U ∧ va_Dc U ∧
  (∀ i : Nat, i < 20 → va_O "java/lang/String" (ad (64 * (2 + 2 * i) + 26)) (jw_A w) U H ∧ va_OF "java/lang/String" "coder" "B" (.int 0) (ad (64 * (2 + 2 * i) + 26)) (jw_A w) U H ∧ va_OF "java/lang/String" "value" "[B" (.ref (ad (64 * (3 + 2 * i) + 51))) (ad (64 * (2 + 2 * i) + 26)) (jw_A w) U H ∧ va_T .byte (ad (64 * (3 + 2 * i) + 51)) (jw_len.getD i 0) (fun j => .int ((jw_byt.getD i []).getD j 0)) (jw_A w) U H) ∧
  (∀ q ∈ jw_lits, vk_R q.1 q.2.1 q.2.2.1 (ad (64 * (2 + 2 * q.2.2.2) + 26)) U) ∧ va_X (ad 2815) w.2.2.2.2.2.1 w.2.2.2.2.2.2 U H ∧ ¬ jw_A w (ad 2815) ∧ va_Nw jw_sp U
theorem jw_U.moved {w : jw_W} {ad : Nat → Nat} {u U : State} {H H1 : Heap} (h : jw_U w ad u H) (hW : u.WarmedH U.vm) (hq : ∀ a : Nat, a < H.size → ¬ jw_A w a → H1[a]? = H[a]?) : jw_U w ad U H1 := by
  have hA := hW.alike
  obtain ⟨h1, h2, h3, h4, h5, h6, h7, h8, h9, h10, h11, h12, h13, h14, h15, h16, h17⟩ := h
  exact ⟨va_K.moved hA h1, fun x hx hn => jw_isN_warm hn hW (h2 x hx hn), va_AO.moved hA h3, va_AO.moved hA h4, va_Nc.moved hA h5, (va_Z.moved hA h6).kept hq, (va_Z.moved hA h7).kept hq, (va_Z.moved hA h8).kept hq, (vx_L.moved hA h9).kept hq, (vx_L.moved hA h10).kept hq, va_Mi.moved hA h11, va_Dc.moved hA h12,
    fun i hi => ⟨(va_O.moved hA (h13 i hi).1).kept hq, (va_OF.moved hA (h13 i hi).2.1).kept hq, (va_OF.moved hA (h13 i hi).2.2.1).kept hq, (va_T.moved hA (h13 i hi).2.2.2).kept hq⟩, fun q hq9 => vk_R.warm hW (h14 q hq9), (va_X.moved hA h15).kept (hq _ (by obtain ⟨scr, g, -⟩ := h15; exact (Array.getElem?_eq_some_iff.mp g).1) h16), h16, word_at hW (Or.inl rfl) h17⟩
theorem jw_U.same {w : jw_W} {ad ad' : Nat → Nat} {U : State} {H : Heap} (h : jw_U w ad U H) (ha : ∀ i, i < 44 → ad' (64 * i + jw_k0 i) = ad (64 * i + jw_k0 i)) : jw_U w ad' U H := by
  obtain ⟨h1, h2, h3, h4, h5, h6, h7, h8, h9, h10, h11, h12, h13, h14, h15, h16, h17⟩ := h
  have e0 : ad' 2751 = ad 2751 := ha 42 (by decide)
  have e9 : ad' 2815 = ad 2815 := ha 43 (by decide)
  have e1 : ∀ i, i < 20 → ad' (64 * (2 + 2 * i) + 26) = ad (64 * (2 + 2 * i) + 26) := fun i hi => by
    have k : jw_k0 (2 + 2 * i) = 26 := by
      unfold jw_k0
      rw [if_neg (by omega), if_pos (by omega)]
    have := ha (2 + 2 * i) (by omega)
    rwa [k] at this
  have e2 : ∀ i, i < 20 → ad' (64 * (3 + 2 * i) + 51) = ad (64 * (3 + 2 * i) + 51) := fun i hi => by
    have k : jw_k0 (3 + 2 * i) = 51 := by
      unfold jw_k0
      rw [if_neg (by omega), if_neg (by omega)]
    have := ha (3 + 2 * i) (by omega)
    rwa [k] at this
  refine ⟨h1, h2, h3, h4, h5, h6, h7, h8, h9, h10, by rw [e0]; exact h11, h12, fun i hi => by rw [e1 i hi, e2 i hi]; exact h13 i hi, fun q hq => ?_, by rw [e9]; exact h15, by rw [e9]; exact h16, h17⟩
  have hb : ∀ q ∈ jw_lits, q.2.2.2 < 20 := by decide +kernel
  rw [e1 _ (hb q hq)]
  exact h14 q hq
/-- a method: its bytes, locals, class, depth, answer, name, table of handlers -/
abbrev jx_K : Type := ByteArray × Nat × String × Nat × Option FieldType × String × List ExceptionTableEntry
/-- what a walk of a method may lean on -/
def jx_C (z : jx_Z) (T : jx_T) (K : jx_K) : Prop :=
  (jx_p z).tables.exec = Jvm.exec ∧ (jx_c z).code = K.1 ∧ (jx_c z).maxLocals = K.2.1 ∧ (jx_s z).vm.findClass K.2.2.1 = some (jx_m z).cls ∧ (∀ w ∈ lw_all, w.before (jx_a z) (jx_s z) = true) ∧ (jx_h z).locks = false ∧ jx_R z = jx_rm K.2.2.2.1 (T.2.1.1 - T.1.1) (T.2.1.2.1 - T.1.2.1) ∧
  jw_U (jx_w z) (jx_d z) (jx_s z) (jx_s z).heap ∧ (jx_l z).stackTraces = false ∧ (jx_w z).2.2.1 ≤ (jx_s z).heap.size ∧ (jx_h z).sig.returnType = K.2.2.2.2.1 ∧ (jx_h z).name = K.2.2.2.2.2.1 ∧ (jx_c z).exceptionTable.toList = K.2.2.2.2.2.2 ∧ 44 ≤ T.1.1
def jg_ (T : jx_T) (K : jx_K) (pc : Nat) (lv : List (Nat × Value)) (st : List Value) (S : so_St) : Prop :=
  so_Ext S T.2.1 ∧ ∀ z : jx_Z, jx_C z T K → ∀ (ad : Nat → Nat) (H : Heap) (locs : List Loc) (ls : Array Slot) (k u : Nat), jg_in z T K.2.1 lv st S ad H locs ls k u → jx_W z H locs k u (jx_Q z T) (F0 (jx_m z) pc ls (st.map (jw_v (jx_w z) ad)))
/-- the same with the reference a thrown over the frame -/
def jg_x (T : jx_T) (K : jx_K) (pc : Nat) (lv : List (Nat × Value)) (a : Nat) (S : so_St) : Prop :=
  so_Ext S T.2.1 ∧ ∀ z : jx_Z, jx_C z T K → ∀ (ad : Nat → Nat) (H : Heap) (locs : List Loc) (ls : Array Slot) (k u : Nat) (rest : List Value), jg_in z T K.2.1 lv [.ref a] S ad H locs ls k u → jx_V z H locs k u (jx_Q z T) (F0 (jx_m z) pc ls rest) (ad a)
section JR
variable {z : jx_Z} {T : jx_T} {K : jx_K} {pc : Nat} {lv lv' : List (Nat × Value)} {st st' : List Value} {S S1 : so_St}
theorem jx_C.x (h : jx_C z T K) : (jx_p z).tables.exec = Jvm.exec := h.1
theorem jx_C.b (h : jx_C z T K) : (jx_c z).code = K.1 := h.2.1
theorem jx_C.ml (h : jx_C z T K) : (jx_c z).maxLocals = K.2.1 := h.2.2.1
theorem jx_C.o (h : jx_C z T K) : (jx_s z).vm.findClass K.2.2.1 = some (jx_m z).cls := h.2.2.2.1
theorem jx_C.t (h : jx_C z T K) : ∀ w ∈ lw_all, w.before (jx_a z) (jx_s z) = true := h.2.2.2.2.1
theorem jx_C.lk (h : jx_C z T K) : (jx_h z).locks = false := h.2.2.2.2.2.1
theorem jx_C.R (h : jx_C z T K) : jx_R z = jx_rm K.2.2.2.1 (T.2.1.1 - T.1.1) (T.2.1.2.1 - T.1.2.1) := h.2.2.2.2.2.2.1
theorem jx_C.U (h : jx_C z T K) : jw_U (jx_w z) (jx_d z) (jx_s z) (jx_s z).heap := h.2.2.2.2.2.2.2.1
theorem jx_C.tr (h : jx_C z T K) : (jx_l z).stackTraces = false := h.2.2.2.2.2.2.2.2.1
theorem jx_C.A (h : jx_C z T K) : ∀ q, (jx_s z).heap.size ≤ q → jw_A (jx_w z) q := fun _ hq => Nat.le_trans h.2.2.2.2.2.2.2.2.2.1 hq
theorem jx_C.r (h : jx_C z T K) : (jx_h z).sig.returnType = K.2.2.2.2.1 := h.2.2.2.2.2.2.2.2.2.2.1
theorem jx_C.n (h : jx_C z T K) : (jx_h z).name = K.2.2.2.2.2.1 := h.2.2.2.2.2.2.2.2.2.2.2.1
theorem jx_C.tab (h : jx_C z T K) : (jx_c z).exceptionTable.toList = K.2.2.2.2.2.2 := h.2.2.2.2.2.2.2.2.2.2.2.2.1
theorem jx_C.k44 (h : jx_C z T K) : 44 ≤ T.1.1 := h.2.2.2.2.2.2.2.2.2.2.2.2.2
theorem jg_in.mv {ad : Nat → Nat} {H : Heap} {locs : List Loc} {ls : Array Slot} {k u : Nat} (h : jg_in z T K.2.1 lv st S ad H locs ls k u) (hs : jo_s S st') : jg_in z T K.2.1 lv st' S ad H locs ls k u := ⟨h.1, h.2.1, h.2.2.1, h.2.2.2.1, h.2.2.2.2.1, hs, h.2.2.2.2.2.2⟩
theorem jg_in.os {ad : Nat → Nat} {H : Heap} {locs : List Loc} {ls : Array Slot} {k u : Nat} (h : jg_in z T K.2.1 lv st S ad H locs ls k u) : jo_s S st := h.2.2.2.2.2.1
theorem jg_in.ol {ad : Nat → Nat} {H : Heap} {locs : List Loc} {ls : Array Slot} {k u : Nat} (h : jg_in z T K.2.1 lv st S ad H locs ls k u) : jo_lv S lv := h.2.2.2.2.1
theorem jg_in.hl {ad : Nat → Nat} {H : Heap} {locs : List Loc} {ls : Array Slot} {k u : Nat} (h : jg_in z T K.2.1 lv st S ad H locs ls k u) : lv_has ls K.2.1 (lv.map (jw_lv (jx_w z) ad)) := h.2.2.2.1
theorem jg_in.hs {ad : Nat → Nat} {H : Heap} {locs : List Loc} {ls : Array Slot} {k u : Nat} (h : jg_in z T K.2.1 lv st S ad H locs ls k u) : va_S (jw_A (jx_w z)) (jx_s z).heap H locs := h.2.2.1
/-- a step that moves the stack alone -/
theorem jr_pure {pc' : Nat} (hs : jo_s S st → jo_s S st') (row : ∀ (z : jx_Z) (_ : jx_C z T K) (ad : Nat → Nat) (H : Heap) (locs : List Loc) (ls : Array Slot) (k u : Nat) (Q : State → Prop), jx_W z H locs k u Q (F0 (jx_m z) pc' ls (st'.map (jw_v (jx_w z) ad))) → jx_W z H locs k u Q (F0 (jx_m z) pc ls (st.map (jw_v (jx_w z) ad))))
    (k : jg_ T K pc' lv st' S) : jg_ T K pc lv st S := ⟨k.1, fun z hC ad H locs ls k9 u h => row z hC ad H locs ls k9 u _ (k.2 z hC ad H locs ls k9 u (h.mv (hs h.os)))⟩

theorem jr_iadd  {x y : Int32} (hd : decode K.1 pc = .ok (.iadd, 1)) (k : jg_ T K (pc + 1) lv (.int (x + y) :: st) S) : jg_ T K pc lv (.int y :: .int x :: st) S :=
  jr_pure (fun h => jo_c jo_i h.t.t) (fun _ hC _ _ _ _ _ _ _ kk => lv_iadd hC.x hC.b hd  kk) k
theorem jr_isub  {x y : Int32} (hd : decode K.1 pc = .ok (.isub, 1)) (k : jg_ T K (pc + 1) lv (.int (x - y) :: st) S) : jg_ T K pc lv (.int y :: .int x :: st) S :=
  jr_pure (fun h => jo_c jo_i h.t.t) (fun _ hC _ _ _ _ _ _ _ kk => lv_isub hC.x hC.b hd  kk) k
theorem jr_imul  {x y : Int32} (hd : decode K.1 pc = .ok (.imul, 1)) (k : jg_ T K (pc + 1) lv (.int (x * y) :: st) S) : jg_ T K pc lv (.int y :: .int x :: st) S :=
  jr_pure (fun h => jo_c jo_i h.t.t) (fun _ hC _ _ _ _ _ _ _ kk => lv_imul hC.x hC.b hd  kk) k
theorem jr_iand  {x y : Int32} (hd : decode K.1 pc = .ok (.iand, 1)) (k : jg_ T K (pc + 1) lv (.int (x &&& y) :: st) S) : jg_ T K pc lv (.int y :: .int x :: st) S :=
  jr_pure (fun h => jo_c jo_i h.t.t) (fun _ hC _ _ _ _ _ _ _ kk => lv_iand hC.x hC.b hd  kk) k
theorem jr_ior  {x y : Int32} (hd : decode K.1 pc = .ok (.ior, 1)) (k : jg_ T K (pc + 1) lv (.int (x ||| y) :: st) S) : jg_ T K pc lv (.int y :: .int x :: st) S :=
  jr_pure (fun h => jo_c jo_i h.t.t) (fun _ hC _ _ _ _ _ _ _ kk => lv_ior hC.x hC.b hd  kk) k
theorem jr_ixor  {x y : Int32} (hd : decode K.1 pc = .ok (.ixor, 1)) (k : jg_ T K (pc + 1) lv (.int (x ^^^ y) :: st) S) : jg_ T K pc lv (.int y :: .int x :: st) S :=
  jr_pure (fun h => jo_c jo_i h.t.t) (fun _ hC _ _ _ _ _ _ _ kk => lv_ixor hC.x hC.b hd  kk) k
theorem jr_idiv  {x y : Int32} (hd : decode K.1 pc = .ok (.idiv, 1)) (hne : ¬ y = 0) (k : jg_ T K (pc + 1) lv (.int (x / y) :: st) S) : jg_ T K pc lv (.int y :: .int x :: st) S :=
  jr_pure (fun h => jo_c jo_i h.t.t) (fun _ hC _ _ _ _ _ _ _ kk => lv_idiv hC.x hC.b hd hne kk) k
theorem jr_irem  {x y : Int32} (hd : decode K.1 pc = .ok (.irem, 1)) (hne : ¬ y = 0) (k : jg_ T K (pc + 1) lv (.int (x - x / y * y) :: st) S) : jg_ T K pc lv (.int y :: .int x :: st) S :=
  jr_pure (fun h => jo_c jo_i h.t.t) (fun _ hC _ _ _ _ _ _ _ kk => lv_irem hC.x hC.b hd hne kk) k
theorem jr_ineg  {x : Int32} (hd : decode K.1 pc = .ok (.ineg, 1)) (k : jg_ T K (pc + 1) lv (.int (-x) :: st) S) : jg_ T K pc lv (.int x :: st) S :=
  jr_pure (fun h => jo_c jo_i h.t) (fun _ hC _ _ _ _ _ _ _ kk => lv_ineg hC.x hC.b hd  kk) k
theorem jr_ishl  {x y : Int32} (hd : decode K.1 pc = .ok (.ishl, 1)) (k : jg_ T K (pc + 1) lv (.int (x <<< (y &&& 31)) :: st) S) : jg_ T K pc lv (.int y :: .int x :: st) S :=
  jr_pure (fun h => jo_c jo_i h.t.t) (fun _ hC _ _ _ _ _ _ _ kk => lv_ishl hC.x hC.b hd  kk) k
theorem jr_ishr  {x y : Int32} (hd : decode K.1 pc = .ok (.ishr, 1)) (k : jg_ T K (pc + 1) lv (.int (x >>> (y &&& 31)) :: st) S) : jg_ T K pc lv (.int y :: .int x :: st) S :=
  jr_pure (fun h => jo_c jo_i h.t.t) (fun _ hC _ _ _ _ _ _ _ kk => lv_ishr hC.x hC.b hd  kk) k
theorem jr_iushr  {x y : Int32} (hd : decode K.1 pc = .ok (.iushr, 1)) (k : jg_ T K (pc + 1) lv (.int ((x.toUInt32 >>> (y.toUInt32 &&& Int32.toUInt32 31)).toInt32) :: st) S) : jg_ T K pc lv (.int y :: .int x :: st) S :=
  jr_pure (fun h => jo_c jo_i h.t.t) (fun _ hC _ _ _ _ _ _ _ kk => lv_iushr hC.x hC.b hd rfl kk) k
theorem jr_ladd  {x y : Int64} (hd : decode K.1 pc = .ok (.ladd, 1)) (k : jg_ T K (pc + 1) lv (.long (x + y) :: st) S) : jg_ T K pc lv (.long y :: .long x :: st) S :=
  jr_pure (fun h => jo_c jo_l h.t.t) (fun _ hC _ _ _ _ _ _ _ kk => lv_ladd hC.x hC.b hd  kk) k
theorem jr_lsub  {x y : Int64} (hd : decode K.1 pc = .ok (.lsub, 1)) (k : jg_ T K (pc + 1) lv (.long (x - y) :: st) S) : jg_ T K pc lv (.long y :: .long x :: st) S :=
  jr_pure (fun h => jo_c jo_l h.t.t) (fun _ hC _ _ _ _ _ _ _ kk => lv_lsub hC.x hC.b hd  kk) k
theorem jr_lmul  {x y : Int64} (hd : decode K.1 pc = .ok (.lmul, 1)) (k : jg_ T K (pc + 1) lv (.long (x * y) :: st) S) : jg_ T K pc lv (.long y :: .long x :: st) S :=
  jr_pure (fun h => jo_c jo_l h.t.t) (fun _ hC _ _ _ _ _ _ _ kk => lv_lmul hC.x hC.b hd  kk) k
theorem jr_ldiv  {x y : Int64} (hd : decode K.1 pc = .ok (.ldiv, 1)) (hne : ¬ y = 0) (k : jg_ T K (pc + 1) lv (.long (x / y) :: st) S) : jg_ T K pc lv (.long y :: .long x :: st) S :=
  jr_pure (fun h => jo_c jo_l h.t.t) (fun _ hC _ _ _ _ _ _ _ kk => lv_ldiv hC.x hC.b hd hne kk) k
theorem jr_lrem  {x y : Int64} (hd : decode K.1 pc = .ok (.lrem, 1)) (hne : ¬ y = 0) (k : jg_ T K (pc + 1) lv (.long (x - x / y * y) :: st) S) : jg_ T K pc lv (.long y :: .long x :: st) S :=
  jr_pure (fun h => jo_c jo_l h.t.t) (fun _ hC _ _ _ _ _ _ _ kk => lv_lrem hC.x hC.b hd hne kk) k
theorem jr_i2l  {x : Int32} (hd : decode K.1 pc = .ok (.i2l, 1)) (k : jg_ T K (pc + 1) lv (.long x.toInt64 :: st) S) : jg_ T K pc lv (.int x :: st) S :=
  jr_pure (fun h => jo_c jo_l h.t) (fun _ hC _ _ _ _ _ _ _ kk => lv_i2l hC.x hC.b hd rfl kk) k
theorem jr_l2i  {x : Int64} (hd : decode K.1 pc = .ok (.l2i, 1)) (k : jg_ T K (pc + 1) lv (.int x.toInt32 :: st) S) : jg_ T K pc lv (.long x :: st) S :=
  jr_pure (fun h => jo_c jo_i h.t) (fun _ hC _ _ _ _ _ _ _ kk => lv_l2i hC.x hC.b hd rfl kk) k
theorem jr_i2b  {x : Int32} (hd : decode K.1 pc = .ok (.i2b, 1)) (k : jg_ T K (pc + 1) lv (.int x.toInt8.toInt32 :: st) S) : jg_ T K pc lv (.int x :: st) S :=
  jr_pure (fun h => jo_c jo_i h.t) (fun _ hC _ _ _ _ _ _ _ kk => lv_i2b hC.x hC.b hd rfl kk) k
theorem jr_i2c  {x : Int32} (hd : decode K.1 pc = .ok (.i2c, 1)) (k : jg_ T K (pc + 1) lv (.int ((x.toUInt32 % 65536).toInt32) :: st) S) : jg_ T K pc lv (.int x :: st) S :=
  jr_pure (fun h => jo_c jo_i h.t) (fun _ hC _ _ _ _ _ _ _ kk => lv_i2c hC.x hC.b hd rfl kk) k
theorem jr_iconst  {n : Int} {v : Int32} (hd : decode K.1 pc = .ok (.iconst n, 1)) (hv : Int32.ofInt n = v) (k : jg_ T K (pc + 1) lv (.int v :: st) S) : jg_ T K pc lv (st) S :=
  jr_pure (fun h => jo_c jo_i h) (fun _ hC _ _ _ _ _ _ _ kk => lv_iconst hC.x hC.b hd hv kk) k
theorem jr_bipush  {n : Int} {v : Int32} (hd : decode K.1 pc = .ok (.bipush n, 2)) (hv : (Int8.ofInt n).toInt32 = v) (k : jg_ T K (pc + 2) lv (.int v :: st) S) : jg_ T K pc lv (st) S :=
  jr_pure (fun h => jo_c jo_i h) (fun _ hC _ _ _ _ _ _ _ kk => lv_bipush hC.x hC.b hd hv kk) k
theorem jr_sipush  {n : Int} {v : Int32} (hd : decode K.1 pc = .ok (.sipush n, 3)) (hv : (Int16.ofInt n).toInt32 = v) (k : jg_ T K (pc + 3) lv (.int v :: st) S) : jg_ T K pc lv (st) S :=
  jr_pure (fun h => jo_c jo_i h) (fun _ hC _ _ _ _ _ _ _ kk => lv_sipush hC.x hC.b hd hv kk) k
theorem jr_lconst  {n : Fin 2} {v : Int64} (hd : decode K.1 pc = .ok (.lconst n, 1)) (hv : Int64.ofNat (n : Nat) = v) (k : jg_ T K (pc + 1) lv (.long v :: st) S) : jg_ T K pc lv (st) S :=
  jr_pure (fun h => jo_c jo_l h) (fun _ hC _ _ _ _ _ _ _ kk => lv_lconst hC.x hC.b hd hv kk) k
theorem jr_null   (hd : decode K.1 pc = .ok (.aconst_null, 1)) (k : jg_ T K (pc + 1) lv (.null :: st) S) : jg_ T K pc lv (st) S :=
  jr_pure (fun h => jo_c jo_n h) (fun _ hC _ _ _ _ _ _ _ kk => lv_null hC.x hC.b hd  kk) k
theorem jr_dup  {v : Value} (hd : decode K.1 pc = .ok (.dup, 1)) (hv : v.category = 1) (k : jg_ T K (pc + 1) lv (v :: v :: st) S) : jg_ T K pc lv (v :: st) S :=
  jr_pure (fun h => jo_c h.h h) (fun _ hC _ _ _ _ _ _ _ kk => lv_dup hC.x hC.b hd ((jw_v_cat v).trans hv) kk) k
theorem jr_pop  {v : Value} (hd : decode K.1 pc = .ok (.pop, 1)) (hv : v.category = 1) (k : jg_ T K (pc + 1) lv st S) : jg_ T K pc lv (v :: st) S :=
  jr_pure (fun h => h.t) (fun _ hC _ _ _ _ _ _ _ kk => lv_pop hC.x hC.b hd ((jw_v_cat v).trans hv) kk) k
theorem jr_dup_x1  {v u : Value} (hd : decode K.1 pc = .ok (.dup_x1, 1)) (hv : v.category = 1) (hu : u.category = 1) (k : jg_ T K (pc + 1) lv (v :: u :: v :: st) S) : jg_ T K pc lv (v :: u :: st) S :=
  jr_pure (fun h => jo_c h.h (jo_c h.t.h (jo_c h.h h.t.t))) (fun _ hC _ _ _ _ _ _ _ kk => lv_dup_x1 hC.x hC.b hd ((jw_v_cat v).trans hv) ((jw_v_cat u).trans hu) kk) k
theorem jr_dup2  {v u : Value} (hd : decode K.1 pc = .ok (.dup2, 1)) (hv : v.category = 1) (hu : u.category = 1) (k : jg_ T K (pc + 1) lv (v :: u :: v :: u :: st) S) : jg_ T K pc lv (v :: u :: st) S :=
  jr_pure (fun h => jo_c h.h (jo_c h.t.h h)) (fun _ hC _ _ _ _ _ _ _ kk => lv_dup2_11 hC.x hC.b hd ((jw_v_cat v).trans hv) ((jw_v_cat u).trans hu) kk) k
theorem jr_goto  {off : Int} {tgt : Nat} (hd : decode K.1 pc = .ok (.goto off, 3)) (ht : (pc : Int) + off = (tgt : Int)) (k : jg_ T K tgt lv st S) : jg_ T K pc lv st S :=
  jr_pure (fun h => h) (fun _ hC _ _ _ _ _ _ _ kk => lv_goto hC.x hC.b hd ht kk) k
theorem jr_icmp_eq  {x y : Int32} {off : Int} {tgt : Nat} (hd : decode K.1 pc = .ok (.if_icmp .eq off, 3)) (ht : (pc : Int) + off = (tgt : Int)) (kt : x = y → jg_ T K tgt lv st S) (kf : ¬ x = y → jg_ T K (pc + 3) lv st S) : jg_ T K pc lv (.int y :: .int x :: st) S := by
  refine ⟨?_, fun z hC ad H locs ls k9 u h => lv_icmp_eq hC.x hC.b hd ht (fun c => (kt c).2 z hC ad H locs ls k9 u (h.mv h.os.t.t)) (fun c => (kf c).2 z hC ad H locs ls k9 u (h.mv h.os.t.t))⟩
  by_cases c : x = y
  · first | exact (kt c).1 | exact (kf c).1
  · first | exact (kf c).1 | exact (kt c).1
theorem jr_if_eq  {x : Int32} {off : Int} {tgt : Nat} (hd : decode K.1 pc = .ok (.ifCond .eq off, 3)) (ht : (pc : Int) + off = (tgt : Int)) (kt : x = 0 → jg_ T K tgt lv st S) (kf : ¬ x = 0 → jg_ T K (pc + 3) lv st S) : jg_ T K pc lv (.int x :: st) S := by
  refine ⟨?_, fun z hC ad H locs ls k9 u h => lv_if_eq hC.x hC.b hd ht (fun c => (kt c).2 z hC ad H locs ls k9 u (h.mv h.os.t)) (fun c => (kf c).2 z hC ad H locs ls k9 u (h.mv h.os.t))⟩
  by_cases c : x = 0
  · first | exact (kt c).1 | exact (kf c).1
  · first | exact (kf c).1 | exact (kt c).1
theorem jr_icmp_ne  {x y : Int32} {off : Int} {tgt : Nat} (hd : decode K.1 pc = .ok (.if_icmp .ne off, 3)) (ht : (pc : Int) + off = (tgt : Int)) (kt : ¬ x = y → jg_ T K tgt lv st S) (kf : x = y → jg_ T K (pc + 3) lv st S) : jg_ T K pc lv (.int y :: .int x :: st) S := by
  refine ⟨?_, fun z hC ad H locs ls k9 u h => lv_icmp_ne hC.x hC.b hd ht (fun c => (kt c).2 z hC ad H locs ls k9 u (h.mv h.os.t.t)) (fun c => (kf c).2 z hC ad H locs ls k9 u (h.mv h.os.t.t))⟩
  by_cases c : x = y
  · first | exact (kt c).1 | exact (kf c).1
  · first | exact (kf c).1 | exact (kt c).1
theorem jr_if_ne  {x : Int32} {off : Int} {tgt : Nat} (hd : decode K.1 pc = .ok (.ifCond .ne off, 3)) (ht : (pc : Int) + off = (tgt : Int)) (kt : ¬ x = 0 → jg_ T K tgt lv st S) (kf : x = 0 → jg_ T K (pc + 3) lv st S) : jg_ T K pc lv (.int x :: st) S := by
  refine ⟨?_, fun z hC ad H locs ls k9 u h => lv_if_ne hC.x hC.b hd ht (fun c => (kt c).2 z hC ad H locs ls k9 u (h.mv h.os.t)) (fun c => (kf c).2 z hC ad H locs ls k9 u (h.mv h.os.t))⟩
  by_cases c : x = 0
  · first | exact (kt c).1 | exact (kf c).1
  · first | exact (kf c).1 | exact (kt c).1
theorem jr_icmp_lt  {x y : Int32} {off : Int} {tgt : Nat} (hd : decode K.1 pc = .ok (.if_icmp .lt off, 3)) (ht : (pc : Int) + off = (tgt : Int)) (kt : x < y → jg_ T K tgt lv st S) (kf : ¬ x < y → jg_ T K (pc + 3) lv st S) : jg_ T K pc lv (.int y :: .int x :: st) S := by
  refine ⟨?_, fun z hC ad H locs ls k9 u h => lv_icmp_lt hC.x hC.b hd ht (fun c => (kt c).2 z hC ad H locs ls k9 u (h.mv h.os.t.t)) (fun c => (kf c).2 z hC ad H locs ls k9 u (h.mv h.os.t.t))⟩
  by_cases c : x < y
  · first | exact (kt c).1 | exact (kf c).1
  · first | exact (kf c).1 | exact (kt c).1
theorem jr_if_lt  {x : Int32} {off : Int} {tgt : Nat} (hd : decode K.1 pc = .ok (.ifCond .lt off, 3)) (ht : (pc : Int) + off = (tgt : Int)) (kt : x < 0 → jg_ T K tgt lv st S) (kf : ¬ x < 0 → jg_ T K (pc + 3) lv st S) : jg_ T K pc lv (.int x :: st) S := by
  refine ⟨?_, fun z hC ad H locs ls k9 u h => lv_if_lt hC.x hC.b hd ht (fun c => (kt c).2 z hC ad H locs ls k9 u (h.mv h.os.t)) (fun c => (kf c).2 z hC ad H locs ls k9 u (h.mv h.os.t))⟩
  by_cases c : x < 0
  · first | exact (kt c).1 | exact (kf c).1
  · first | exact (kf c).1 | exact (kt c).1
theorem jr_icmp_ge  {x y : Int32} {off : Int} {tgt : Nat} (hd : decode K.1 pc = .ok (.if_icmp .ge off, 3)) (ht : (pc : Int) + off = (tgt : Int)) (kt : y ≤ x → jg_ T K tgt lv st S) (kf : ¬ y ≤ x → jg_ T K (pc + 3) lv st S) : jg_ T K pc lv (.int y :: .int x :: st) S := by
  refine ⟨?_, fun z hC ad H locs ls k9 u h => lv_icmp_ge hC.x hC.b hd ht (fun c => (kt c).2 z hC ad H locs ls k9 u (h.mv h.os.t.t)) (fun c => (kf c).2 z hC ad H locs ls k9 u (h.mv h.os.t.t))⟩
  by_cases c : y ≤ x
  · first | exact (kt c).1 | exact (kf c).1
  · first | exact (kf c).1 | exact (kt c).1
theorem jr_if_ge  {x : Int32} {off : Int} {tgt : Nat} (hd : decode K.1 pc = .ok (.ifCond .ge off, 3)) (ht : (pc : Int) + off = (tgt : Int)) (kt : 0 ≤ x → jg_ T K tgt lv st S) (kf : ¬ 0 ≤ x → jg_ T K (pc + 3) lv st S) : jg_ T K pc lv (.int x :: st) S := by
  refine ⟨?_, fun z hC ad H locs ls k9 u h => lv_if_ge hC.x hC.b hd ht (fun c => (kt c).2 z hC ad H locs ls k9 u (h.mv h.os.t)) (fun c => (kf c).2 z hC ad H locs ls k9 u (h.mv h.os.t))⟩
  by_cases c : 0 ≤ x
  · first | exact (kt c).1 | exact (kf c).1
  · first | exact (kf c).1 | exact (kt c).1
theorem jr_icmp_gt  {x y : Int32} {off : Int} {tgt : Nat} (hd : decode K.1 pc = .ok (.if_icmp .gt off, 3)) (ht : (pc : Int) + off = (tgt : Int)) (kt : y < x → jg_ T K tgt lv st S) (kf : ¬ y < x → jg_ T K (pc + 3) lv st S) : jg_ T K pc lv (.int y :: .int x :: st) S := by
  refine ⟨?_, fun z hC ad H locs ls k9 u h => lv_icmp_gt hC.x hC.b hd ht (fun c => (kt c).2 z hC ad H locs ls k9 u (h.mv h.os.t.t)) (fun c => (kf c).2 z hC ad H locs ls k9 u (h.mv h.os.t.t))⟩
  by_cases c : y < x
  · first | exact (kt c).1 | exact (kf c).1
  · first | exact (kf c).1 | exact (kt c).1
theorem jr_if_gt  {x : Int32} {off : Int} {tgt : Nat} (hd : decode K.1 pc = .ok (.ifCond .gt off, 3)) (ht : (pc : Int) + off = (tgt : Int)) (kt : 0 < x → jg_ T K tgt lv st S) (kf : ¬ 0 < x → jg_ T K (pc + 3) lv st S) : jg_ T K pc lv (.int x :: st) S := by
  refine ⟨?_, fun z hC ad H locs ls k9 u h => lv_if_gt hC.x hC.b hd ht (fun c => (kt c).2 z hC ad H locs ls k9 u (h.mv h.os.t)) (fun c => (kf c).2 z hC ad H locs ls k9 u (h.mv h.os.t))⟩
  by_cases c : 0 < x
  · first | exact (kt c).1 | exact (kf c).1
  · first | exact (kf c).1 | exact (kt c).1
theorem jr_icmp_le  {x y : Int32} {off : Int} {tgt : Nat} (hd : decode K.1 pc = .ok (.if_icmp .le off, 3)) (ht : (pc : Int) + off = (tgt : Int)) (kt : x ≤ y → jg_ T K tgt lv st S) (kf : ¬ x ≤ y → jg_ T K (pc + 3) lv st S) : jg_ T K pc lv (.int y :: .int x :: st) S := by
  refine ⟨?_, fun z hC ad H locs ls k9 u h => lv_icmp_le hC.x hC.b hd ht (fun c => (kt c).2 z hC ad H locs ls k9 u (h.mv h.os.t.t)) (fun c => (kf c).2 z hC ad H locs ls k9 u (h.mv h.os.t.t))⟩
  by_cases c : x ≤ y
  · first | exact (kt c).1 | exact (kf c).1
  · first | exact (kf c).1 | exact (kt c).1
theorem jr_if_le  {x : Int32} {off : Int} {tgt : Nat} (hd : decode K.1 pc = .ok (.ifCond .le off, 3)) (ht : (pc : Int) + off = (tgt : Int)) (kt : x ≤ 0 → jg_ T K tgt lv st S) (kf : ¬ x ≤ 0 → jg_ T K (pc + 3) lv st S) : jg_ T K pc lv (.int x :: st) S := by
  refine ⟨?_, fun z hC ad H locs ls k9 u h => lv_if_le hC.x hC.b hd ht (fun c => (kt c).2 z hC ad H locs ls k9 u (h.mv h.os.t)) (fun c => (kf c).2 z hC ad H locs ls k9 u (h.mv h.os.t))⟩
  by_cases c : x ≤ 0
  · first | exact (kt c).1 | exact (kf c).1
  · first | exact (kf c).1 | exact (kt c).1
end JR
