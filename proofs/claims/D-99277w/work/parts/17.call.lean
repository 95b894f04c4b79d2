/-! BASE H: contracts, calls, returns, throws -/
set_option maxRecDepth 100000
def jx_Pc (w : jw_W) (ad : Nat → Nat) (S : so_St) (vs : List Value) : Array Value → State → Prop := va_Pc (vs.map (jw_v w ad)) (fun U => jw_H w ad S U.heap ∧ jw_U w ad U U.heap ∧ w.2.2.1 ≤ U.heap.size)
/-- a method's contract over the abstract store: depth, name, words, arguments, store, what comes back, store -/
def jx_Sp (d : Nat) (y : MethodName) (ws : List Cond) (vs : List Value) (S : so_St) (out : Option Value ⊕ Nat) (S' : so_St) : Prop :=
  so_Ext S S' ∧ ∀ (l : Launch) (w : jw_W) (ad : Nat → Nat), l.stackTraces = false → jo_s S vs → vx_Met l y ws (jx_rm d (S'.1 - S.1) (S'.2.1 - S.2.1)) (jx_Pc w ad S vs) (jw_Q w ad S S' out) (jw_X w ad S S' out) (S'.1 - S.1) (S'.2.1 - S.2.1) (jw_A w)
theorem jx_blind {w : jw_W} {ad : Nat → Nat} {S : so_St} {vs : List Value} : FrameBlind (jx_Pc w ad S vs) := fun a U g mk q => by
  obtain ⟨q0, q1, q2, q3⟩ := q
  exact ⟨q0, q1, q2.moved (U := U.calling g mk a) (State.WarmedH.refl U) (fun _ _ _ => rfl), q3⟩
/-- what a call knows of its receiver: nothing (0), a reference (1), its class (2) -/
def jk_rc (rc : Nat × String) (s : State) (H : Heap) (As : List Value) : Prop := match rc.1 with
  | 0 => True
  | 1 => ∃ b As', As = .ref b :: As'
  | _ => ∃ b As', As = .ref b :: As' ∧ ∃ cell : Cell, H[b]? = some cell ∧ cell.vm.isStatics = false ∧ s.vm.findClass rc.2 = some cell.cls
/-- a link: class own's instruction ins calls y -/
def jk_ (own : String) (ins : Instr) (y : MethodName) (ws : List Cond) (rc : Nat × String) (n : Nat) : Prop :=
  ∀ (z : jx_Z) (T : jx_T) (K : jx_K) (_ : jx_C z T K) (_ : K.2.2.1 = own) (d' mc ms : Nat) (Pc : Array Value → State → Prop) (Qc : Array Value → State → Outcome → State → Prop) (XC : Addr → String → State → State → Prop) (free : Addr → Prop) (_ : vx_Met (jx_l z) y ws (jx_rm d' mc ms) Pc Qc XC mc ms free)
    (H : Heap) (locs : List Loc) (cells slots : Nat) (g : JFrame) (rest As : List Value) (_ : FrameBlind Pc) (_ : ∀ U : State, U.heap = H → (jx_s z).WarmedH U.vm → Pc As.toArray U) (_ : jk_rc rc (jx_s z) H As) (_ : g.method = jx_m z) (_ : As.length = n) (_ : g.locals.size = K.2.1) (_ : g.stack = As.reverse ++ rest)
    (_ : 2 * g.monitorRoom + (rest.map fun v => v.category).sum ≤ 8) (_ : decode K.1 g.pc = .ok (ins, 3)) (_ : cells + mc ≤ (jx_R z).cells ∧ slots + ms ≤ (jx_R z).slots) (_ : d' + 1 ≤ K.2.2.2.1),
    vx_Run (jx_p z) (jx_l z) (jx_e z) (jx_R z) (jx_s z) (jx_m z) (jx_a z) (jx_b z) (jx_h z) (jx_c z) H locs cells slots mc ms g rest (Qc As.toArray) XC free
theorem jk_room {z : jx_Z} {T : jx_T} {K : jx_K} (hC : jx_C z T K) {d' mc ms L : Nat} (hL : L ≤ 45) (hd : d' + 1 ≤ K.2.2.2.1) : (jx_rm d' mc ms).frames + 1 ≤ (jx_R z).frames ∧ 8 + (L + 11) + (jx_rm d' mc ms).locals ≤ (jx_R z).locals := by
  rw [hC.R]
  refine ⟨hd, ?_⟩
  show 8 + (L + 11) + 64 * d' ≤ 64 * K.2.2.2.1
  omega
theorem jk_rev {b : Nat} {As rest : List Value} : (Value.ref b :: As).reverse ++ rest = As.reverse ++ .ref b :: rest := by simp
theorem jk_V {own : String} {idx : Nat} {C : String} {y : MethodName} {b : ByteArray} {L n : Nat} {r : Option FieldType} (h1 : Cond.methodLink own idx y ∈ lw_all) (h2 : Cond.instanceMethod y ∈ lw_all) (h3 : Cond.selects C y y ∈ lw_all) (h4 : Cond.initialized C ∈ lw_all) (h5 : Cond.code y b L r ∈ lw_all)
    (hd : y.cls = C ∧ y.cls ≠ "java/lang/invoke/MethodHandle" ∧ y.cls ≠ "java/lang/invoke/VarHandle" ∧ (parseMethodDescriptor y.desc).map (fun d => d.parameters.length) = some n) (hL : L ≤ 45) : jk_ own (.invokevirtual idx) y (ws_ y b L r) (2, C) (n + 1) := by
  intro z T K hC ho d' mc ms Pc Qc XC free hM H locs cells slots g rest As hbl hpc hrc hg hn hsize hstack hW hdg hf hdd
  obtain ⟨bb, As', rfl, hcell⟩ := hrc
  subst ho
  exact vx_runV (As := As') (b := bb) ⟨hC.x, hC.b, hC.ml, hC.o, hC.t⟩ hM (cwV n hC.t (lw_V h1 h2 h3 h4 h5) rfl rfl rfl hd (jk_room hC hL hdd)) ⟨hbl, hcell, hpc⟩ hg (Nat.succ.inj hn) hsize (hstack.trans jk_rev) hW hdg hf
theorem jk_VW {own : String} {idx : Nat} {C : String} {y : MethodName} {b : ByteArray} {L n : Nat} {r : Option FieldType} {hh : List (Nat × Nat × Nat × Nat)} (h1 : Cond.methodLink own idx y ∈ lw_all) (h2 : Cond.instanceMethod y ∈ lw_all) (h3 : Cond.selects C y y ∈ lw_all) (h4 : Cond.initialized C ∈ lw_all) (h5 : Cond.codeWith y b L r hh ∈ lw_all)
    (hd : y.cls = C ∧ y.cls ≠ "java/lang/invoke/MethodHandle" ∧ y.cls ≠ "java/lang/invoke/VarHandle" ∧ (parseMethodDescriptor y.desc).map (fun d => d.parameters.length) = some n) (hL : L ≤ 45) : jk_ own (.invokevirtual idx) y (wsW_ y b L r hh) (2, C) (n + 1) := by
  intro z T K hC ho d' mc ms Pc Qc XC free hM H locs cells slots g rest As hbl hpc hrc hg hn hsize hstack hW hdg hf hdd
  obtain ⟨bb, As', rfl, hcell⟩ := hrc
  subst ho
  exact vx_runVX (As := As') (b := bb) ⟨hC.x, hC.b, hC.ml, hC.o, hC.t⟩ hM (vx_cwVW n hC.t (lw_VW h1 h2 h3 h4 h5) rfl rfl rfl hd (jk_room hC hL hdd)) ⟨hbl, hcell, hpc⟩ hg (Nat.succ.inj hn) hsize (hstack.trans jk_rev) hW hdg hf
theorem jk_S {own : String} {idx : Nat} {y : MethodName} {b : ByteArray} {L n : Nat} {r : Option FieldType} (h1 : Cond.methodLink own idx y ∈ lw_all) (h2 : Cond.static y ∈ lw_all) (h3 : Cond.initialized y.cls ∈ lw_all) (h4 : Cond.code y b L r ∈ lw_all)
    (hd : y.cls ≠ "java/lang/invoke/MethodHandle" ∧ y.cls ≠ "java/lang/invoke/VarHandle" ∧ (parseMethodDescriptor y.desc).map (fun d => d.parameters.length) = some n) (hL : L ≤ 45) : jk_ own (.invokestatic idx) y (ws_ y b L r) (0, "") n := by
  intro z T K hC ho d' mc ms Pc Qc XC free hM H locs cells slots g rest As hbl hpc hrc hg hn hsize hstack hW hdg hf hdd
  subst ho
  exact vx_runS (As := As) ⟨hC.x, hC.b, hC.ml, hC.o, hC.t⟩ hM (va_cwS n hC.t (lw_S h1 h2 h3 h4) rfl rfl rfl hd (jk_room hC hL hdd)) ⟨hbl, hpc⟩ hg hn hsize hstack hW hdg hf
theorem jk_SW {own : String} {idx : Nat} {y : MethodName} {b : ByteArray} {L n : Nat} {r : Option FieldType} {hh : List (Nat × Nat × Nat × Nat)} (h1 : Cond.methodLink own idx y ∈ lw_all) (h2 : Cond.static y ∈ lw_all) (h3 : Cond.initialized y.cls ∈ lw_all) (h4 : Cond.codeWith y b L r hh ∈ lw_all)
    (hd : y.cls ≠ "java/lang/invoke/MethodHandle" ∧ y.cls ≠ "java/lang/invoke/VarHandle" ∧ (parseMethodDescriptor y.desc).map (fun d => d.parameters.length) = some n) (hL : L ≤ 45) : jk_ own (.invokestatic idx) y (wsW_ y b L r hh) (0, "") n := by
  intro z T K hC ho d' mc ms Pc Qc XC free hM H locs cells slots g rest As hbl hpc hrc hg hn hsize hstack hW hdg hf hdd
  subst ho
  exact vx_runSX (As := As) ⟨hC.x, hC.b, hC.ml, hC.o, hC.t⟩ hM (vx_cwSW n hC.t (lw_SW h1 h2 h3 h4) rfl rfl rfl hd (jk_room hC hL hdd)) ⟨hbl, hpc⟩ hg hn hsize hstack hW hdg hf
theorem jk_I {own : String} {idx : Nat} {y : MethodName} {b : ByteArray} {L n : Nat} (h1 : Cond.methodLink own idx y ∈ lw_all) (h2 : Cond.instanceMethod y ∈ lw_all) (h3 : Cond.initialized y.cls ∈ lw_all) (h4 : Cond.code y b L none ∈ lw_all) (hi : y.name = "<init>")
    (hd : y.cls ≠ "java/lang/invoke/MethodHandle" ∧ y.cls ≠ "java/lang/invoke/VarHandle" ∧ (parseMethodDescriptor y.desc).map (fun d => d.parameters.length) = some n) (hL : L ≤ 45) : jk_ own (.invokespecial idx) y (ws_ y b L none) (1, "") (n + 1) := by
  intro z T K hC ho d' mc ms Pc Qc XC free hM H locs cells slots g rest As hbl hpc hrc hg hn hsize hstack hW hdg hf hdd
  obtain ⟨bb, As', rfl⟩ := hrc
  subst ho
  exact vx_runI (As := As') (b := bb) ⟨hC.x, hC.b, hC.ml, hC.o, hC.t⟩ hM (cwI n hC.t (lw_meth h4) rfl rfl rfl (hC.t _ h3) (hC.t _ h1) (hC.t _ h2) hi hd (jk_room hC hL hdd)) ⟨hbl, hpc⟩ hg (Nat.succ.inj hn) hsize (hstack.trans jk_rev) hW hdg hf
theorem jk_IN {own : String} {idx : Nat} {y : MethodName} {b : ByteArray} {L n : Nat} {host : String} (h1 : Cond.methodLinkNest own idx y host ∈ lw_tbl) (h2 : Cond.instanceMethod y ∈ lw_all) (h3 : Cond.initialized y.cls ∈ lw_all) (h4 : Cond.code y b L none ∈ lw_all) (hi : y.name = "<init>")
    (hd : y.cls ≠ "java/lang/invoke/MethodHandle" ∧ y.cls ≠ "java/lang/invoke/VarHandle" ∧ (parseMethodDescriptor y.desc).map (fun d => d.parameters.length) = some n) (hL : L ≤ 45) : jk_ own (.invokespecial idx) y (ws_ y b L none) (1, "") (n + 1) := by
  intro z T K hC ho d' mc ms Pc Qc XC free hM H locs cells slots g rest As hbl hpc hrc hg hn hsize hstack hW hdg hf hdd
  obtain ⟨bb, As', rfl⟩ := hrc
  subst ho
  exact vx_runIN (As := As') (b := bb) ⟨hC.x, hC.b, hC.ml, hC.o, hC.t⟩ hM ⟨va_cnB n hC.t (lw_meth h4) rfl rfl rfl (hC.U.2.1 _ h1 rfl) (hC.t _ h3) hd (jk_room hC hL hdd), hi, hC.t _ h2⟩ ⟨hbl, hpc⟩ hg (Nat.succ.inj hn) hsize (hstack.trans jk_rev) hW hdg hf
theorem jk_VN {own : String} {idx : Nat} {C : String} {y : MethodName} {b : ByteArray} {L n : Nat} {r : Option FieldType} {host : String} (h1 : Cond.methodLinkNest own idx y host ∈ lw_tbl) (h2 : Cond.instanceMethod y ∈ lw_all) (h3 : Cond.selects C y y ∈ lw_all) (h4 : Cond.initialized y.cls ∈ lw_all) (h5 : Cond.code y b L r ∈ lw_all)
    (hd : y.cls ≠ "java/lang/invoke/MethodHandle" ∧ y.cls ≠ "java/lang/invoke/VarHandle" ∧ (parseMethodDescriptor y.desc).map (fun d => d.parameters.length) = some n) (hL : L ≤ 45) : jk_ own (.invokevirtual idx) y (ws_ y b L r) (2, C) (n + 1) := by
  intro z T K hC ho d' mc ms Pc Qc XC free hM H locs cells slots g rest As hbl hpc hrc hg hn hsize hstack hW hdg hf hdd
  obtain ⟨bb, As', rfl, hcell⟩ := hrc
  subst ho
  exact vx_runVN (As := As') (b := bb) (C := C) ⟨hC.x, hC.b, hC.ml, hC.o, hC.t⟩ hM ⟨va_cnB n hC.t (lw_meth h5) rfl rfl rfl (hC.U.2.1 _ h1 rfl) (hC.t _ h4) hd (jk_room hC hL hdd), hC.t _ h2, hC.t _ h3⟩ ⟨hbl, hcell, hpc⟩ hg (Nat.succ.inj hn) hsize (hstack.trans jk_rev) hW hdg hf
theorem jk_SN {own : String} {idx : Nat} {y : MethodName} {b : ByteArray} {L n : Nat} {r : Option FieldType} {host : String} (h1 : Cond.methodLinkNest own idx y host ∈ lw_tbl) (h2 : Cond.static y ∈ lw_all) (h4 : Cond.initialized y.cls ∈ lw_all) (h5 : Cond.code y b L r ∈ lw_all)
    (hd : y.cls ≠ "java/lang/invoke/MethodHandle" ∧ y.cls ≠ "java/lang/invoke/VarHandle" ∧ (parseMethodDescriptor y.desc).map (fun d => d.parameters.length) = some n) (hL : L ≤ 45) : jk_ own (.invokestatic idx) y (ws_ y b L r) (0, "") n := by
  intro z T K hC ho d' mc ms Pc Qc XC free hM H locs cells slots g rest As hbl hpc hrc hg hn hsize hstack hW hdg hf hdd
  subst ho
  exact vx_runSN (As := As) ⟨hC.x, hC.b, hC.ml, hC.o, hC.t⟩ hM ⟨va_cnB n hC.t (lw_meth h5) rfl rfl rfl (hC.U.2.1 _ h1 rfl) (hC.t _ h4) hd (jk_room hC hL hdd), hC.t _ h2, trivial⟩ ⟨hbl, hpc⟩ hg hn hsize hstack hW hdg hf
/-- by the receiver: x is named, y (of class owner) is selected in class C -/
theorem jk_wU {own : String} {idx : Nat} {C owner : String} {x y : MethodName} {b : ByteArray} {L : Nat} {r : Option FieldType} (h1 : Cond.methodLink own idx x ∈ lw_all) (h2 : Cond.sameMethod x.cls owner x.name x.desc ∈ lw_all) (h3 : Cond.selects C x y ∈ lw_all) (h4 : Cond.instanceMethod y ∈ lw_all) (h5 : Cond.initialized y.cls ∈ lw_all) (h6 : Cond.code y b L r ∈ lw_all) : GoodIn lw_all (va_wsU own idx C owner x y (ws_ y b L r)) := by
  refine lw_app ?_ (lw_meth h6)
  intro w hw
  simp only [List.mem_cons, List.not_mem_nil, or_false] at hw
  rcases hw with e | e | e | e | e
  · rw [e]; exact h1
  · rw [e]; exact h2
  · rw [e]; exact h3
  · rw [e]; exact h4
  · rw [e]; exact h5
theorem jk_U {own : String} {idx : Nat} {C owner : String} {x y : MethodName} {b : ByteArray} {L n : Nat} {r : Option FieldType} (h1 : Cond.methodLink own idx x ∈ lw_all) (h2 : Cond.sameMethod x.cls owner x.name x.desc ∈ lw_all) (h3 : Cond.selects C x y ∈ lw_all) (h4 : Cond.instanceMethod y ∈ lw_all) (h5 : Cond.initialized y.cls ∈ lw_all) (h6 : Cond.code y b L r ∈ lw_all) (hyx : y = ⟨owner, x.name, x.desc⟩)
    (hd : owner ≠ "java/lang/invoke/MethodHandle" ∧ owner ≠ "java/lang/invoke/VarHandle" ∧ (parseMethodDescriptor x.desc).map (fun d => d.parameters.length) = some n) (hL : L ≤ 45) : jk_ own (.invokevirtual idx) y (ws_ y b L r) (2, C) (n + 1) := by
  intro z T K hC ho d' mc ms Pc Qc XC free hM H locs cells slots g rest As hbl hpc hrc hg hn hsize hstack hW hdg hf hdd
  obtain ⟨bb, As', rfl, hcell⟩ := hrc
  subst ho
  exact vx_runU (As := As') (b := bb) ⟨hC.x, hC.b, hC.ml, hC.o, hC.t⟩ hM (va_cwU n hC.t (jk_wU h1 h2 h3 h4 h5 h6) rfl rfl rfl hyx hd (jk_room hC hL hdd)) ⟨hbl, hcell, hpc⟩ hg (Nat.succ.inj hn) hsize (hstack.trans jk_rev) hW hdg hf
theorem jk_A {own : String} {idx : Nat} {C owner : String} {x y : MethodName} {b : ByteArray} {L n : Nat} {r : Option FieldType} (h0 : Cond.declares ⟨owner, x.name, x.desc⟩ ∈ lw_tbl) (h1 : Cond.methodLink own idx x ∈ lw_all) (h2 : Cond.sameMethod x.cls owner x.name x.desc ∈ lw_all) (h3 : Cond.selects C x y ∈ lw_all) (h4 : Cond.instanceMethod y ∈ lw_all) (h5 : Cond.initialized y.cls ∈ lw_all) (h6 : Cond.code y b L r ∈ lw_all)
    (hd : owner ≠ "java/lang/invoke/MethodHandle" ∧ owner ≠ "java/lang/invoke/VarHandle" ∧ (parseMethodDescriptor x.desc).map (fun d => d.parameters.length) = some n) (hL : L ≤ 45) : jk_ own (.invokevirtual idx) y (ws_ y b L r) (2, C) (n + 1) := by
  intro z T K hC ho d' mc ms Pc Qc XC free hM H locs cells slots g rest As hbl hpc hrc hg hn hsize hstack hW hdg hf hdd
  obtain ⟨bb, As', rfl, hcell⟩ := hrc
  subst ho
  exact vx_runU (As := As') (b := bb) ⟨hC.x, hC.b, hC.ml, hC.o, hC.t⟩ hM (va_cwA n hC.t (jk_wU h1 h2 h3 h4 h5 h6) rfl rfl rfl (hC.U.2.1 _ h0 rfl) hd (jk_room hC hL hdd)) ⟨hbl, hcell, hpc⟩ hg (Nat.succ.inj hn) hsize (hstack.trans jk_rev) hW hdg hf
/-- the receiver of a call, in the store -/
def jk_rk (rc : Nat × String) (vs : List Value) : Prop := match rc.1 with
  | 0 => True
  | 1 => ∃ (a : Nat) (vs' : List Value), vs = .ref a :: vs' ∧ a % 64 ≠ 63
  | _ => ∃ (a : Nat) (vs' : List Value) (q : vw_C), vs = .ref a :: vs' ∧ a % 64 < 29 ∧ jw_cl[a % 64]? = some q ∧ q.1 = rc.2 ∧ (a % 64 = 26 → 44 ≤ a / 64)
theorem jk_r0 {s : String} {vs : List Value} : jk_rk (0, s) vs := trivial
theorem jk_r1 {s : String} {vs : List Value} {a : Nat} (h : a % 64 ≠ 63) : jk_rk (1, s) (.ref a :: vs) := ⟨a, vs, rfl, h⟩
theorem jk_r2 {s : String} {vs : List Value} {a : Nat} (k : Nat) {q : vw_C} (h : a % 64 = k) (hk : k < 29) (hq : jw_cl[k]? = some q) (hs : q.1 = s) (h26 : k = 26 → 44 ≤ a / 64) : jk_rk (2, s) (.ref a :: vs) := by
  subst h
  exact ⟨a, vs, q, rfl, hk, hq, hs, h26⟩
section JC
variable {z : jx_Z} {T : jx_T} {K : jx_K} {pc : Nat} {lv lv' : List (Nat × Value)} {st st' : List Value} {S S1 : so_St}
theorem jm_U (hC : jx_C z T K) {ad : Nat → Nat} {H : Heap} {locs : List Loc} {ls : Array Slot} {k u : Nat} (h : jg_in z T K.2.1 lv st S ad H locs ls k u) {U : State} (hU : U.heap = H) (hW : (jx_s z).WarmedH U.vm) : jw_U (jx_w z) ad U U.heap := by
  refine (hC.U.moved hW (H1 := U.heap) (fun a h1 h2 => by rw [hU]; exact h.hs.2.1 a h1 h2)).same (fun i hi => ?_)
  have hE := h.2.2.2.2.2.2.2.2
  have h43 := hC.k44
  have hk : jw_k0 i < 64 := by rcases jw_k0_cases i with g | g | g <;> omega
  have q1 : (64 * i + jw_k0 i) / 64 = i := by omega
  have q2 : (64 * i + jw_k0 i) % 64 = jw_k0 i := by omega
  refine h.2.1 _ ⟨by omega, ?_⟩
  rw [q1, q2, ← hE.2.2 i (by omega)]
  exact (h.1.2.2.2.1 i hi).1
theorem jm_rc (hC : jx_C z T K) {ad : Nat → Nat} {H : Heap} {locs : List Loc} {ls : Array Slot} {k u : Nat} (h : jg_in z T K.2.1 lv st S ad H locs ls k u) {rc : Nat × String} {vs : List Value} (hv : jo_s S vs) (hr : jk_rk rc vs) : jk_rc rc (jx_s z) H (vs.map (jw_v (jx_w z) ad)) := by
  obtain ⟨c, s⟩ := rc
  match c, hr with
  | 0, _ => trivial
  | 1, hr =>
    obtain ⟨a, vs', e, h1⟩ := hr
    subst e
    exact ⟨ad a, vs'.map (jw_v (jx_w z) ad), by rw [List.map_cons, jw_v_n h1]⟩
  | c + 2, hr =>
    obtain ⟨a, vs', q, e, h1, h2, h3, h4⟩ : ∃ (a : Nat) (vs' : List Value) (q : vw_C), vs = .ref a :: vs' ∧ a % 64 < 29 ∧ jw_cl[a % 64]? = some q ∧ q.1 = s ∧ (a % 64 = 26 → 44 ≤ a / 64) := hr
    subst e
    have n1 : a % 64 ≠ 63 := by omega
    refine ⟨ad a, vs'.map (jw_v (jx_w z) ad), by rw [List.map_cons, jw_v_n n1], ?_⟩
    have := jm_recv hC h (hv.h a rfl) h1 h2 h4
    rw [h3] at this
    exact this
theorem jm_toL {w : jw_W} {ad : Nat → Nat} (v : Option Value) : (v.map (jw_v w ad)).toList = v.toList.map (jw_v w ad) := by cases v <;> rfl
theorem jo_rev {vs : List Value} (h : jo_s S vs.reverse) : jo_s S vs := fun v hv => h v (List.mem_reverse.mpr hv)
/-- a call: what the machine comes to -/
theorem jm_run (hC : jx_C z T K) {ins : Instr} {y : MethodName} {ws : List Cond} {rc : Nat × String} {n d' : Nat} {vs : List Value} {out : Option Value ⊕ Nat} (hL : jk_ K.2.2.1 ins y ws rc n) (hS : jx_Sp d' y ws vs S out S1) (hr : jk_rk rc vs) (hn : vs.length = n) (hcat : (st.map fun v => v.category).sum ≤ 8) (hdd : d' + 1 ≤ K.2.2.2.1) (hd : decode K.1 pc = .ok (ins, 3)) (hE : so_Ext S1 T.2.1)
    {ad : Nat → Nat} {H : Heap} {locs : List Loc} {ls : Array Slot} {kk u : Nat} (h : jg_in z T K.2.1 lv (vs.reverse ++ st) S ad H locs ls kk u) :
    vx_Run (jx_p z) (jx_l z) (jx_e z) (jx_R z) (jx_s z) (jx_m z) (jx_a z) (jx_b z) (jx_h z) (jx_c z) H locs kk u (S1.1 - S.1) (S1.2.1 - S.2.1) (F0 (jx_m z) pc ls ((vs.reverse ++ st).map (jw_v (jx_w z) ad))) (st.map (jw_v (jx_w z) ad)) (jw_Q (jx_w z) ad S S1 out (vs.map (jw_v (jx_w z) ad)).toArray) (jw_X (jx_w z) ad S S1 out) (jw_A (jx_w z)) := by
  have hvs : jo_s S vs := jo_rev (fun v hv => h.os v (List.mem_append_left _ hv))
  have x1 := hS.1.1
  have x2 := hS.1.2.1
  have x3 : kk + T.1.1 = S.1 := h.2.2.2.2.2.2.1
  have x4 : u + T.1.2.1 = S.2.1 := h.2.2.2.2.2.2.2.1
  have x5 := hE.1
  have x6 := hE.2.1
  refine hL z T K hC rfl d' _ _ _ _ _ _ (hS.2 (jx_l z) (jx_w z) ad hC.tr hvs) H locs kk u _ _ (vs.map (jw_v (jx_w z) ad)) jx_blind (fun U hU hW => ⟨rfl, by rw [hU]; exact h.1, jm_U hC h hU hW, ?_⟩) (jm_rc hC h hvs hr) rfl (by rw [List.length_map]; exact hn) h.hl.1 (by rw [List.map_append, List.map_reverse]) ?_ hd ⟨?_, ?_⟩ hdd
  · rw [hU]
    exact Nat.le_trans hC.2.2.2.2.2.2.2.2.2.1 h.hs.1
  · have e : (List.map (fun v => v.category) (st.map (jw_v (jx_w z) ad))) = st.map (fun v => v.category) := by
      rw [List.map_map]
      exact List.map_congr_left (fun v _ => jw_v_cat v)
    rw [e]
    show 2 * 0 + _ ≤ 8
    omega
  · rw [hC.R]
    show kk + (S1.1 - S.1) ≤ T.2.1.1 - T.1.1
    omega
  · rw [hC.R]
    show u + (S1.2.1 - S.2.1) ≤ T.2.1.2.1 - T.1.2.1
    omega
theorem jm_back {ad ad' : Nat → Nat} {H : Heap} {locs L : List Loc} {ls : Array Slot} {kk u : Nat} {st₀ t T' : State} (h : jg_in z T K.2.1 lv st S ad H locs ls kk u) (hE : so_Ext S S1) (h0 : st₀.heap = H) (e1 : T'.heap = t.heap) (hL : ∀ q ∈ L, jw_A (jx_w z) q.base) (ha : ∀ a, so_ok S a → ad' a = ad a) (hH : jw_H (jx_w z) ad' S1 t.heap) (hF : va_F (jw_A (jx_w z)) st₀ t) (h3 : jo_s S1 st') : jg_in z T K.2.1 lv st' S1 ad' T'.heap (locs ++ L) ls (kk + (S1.1 - S.1)) (u + (S1.2.1 - S.2.1)) := by
  have x1 := hE.1
  have x2 := hE.2.1
  have x3 : kk + T.1.1 = S.1 := h.2.2.2.2.2.2.1
  have x4 : u + T.1.2.1 = S.2.1 := h.2.2.2.2.2.2.2.1
  exact h.new hE (by rw [e1]; exact hH) ha (vx_keep h0 e1 h.hs (fun _ _ q => q) (fun _ q => q) hL hF).2.2 h3 (by omega) (by omega)
theorem jr_call {ins : Instr} {y : MethodName} {ws : List Cond} {rc : Nat × String} {n d' : Nat} {vs stk : List Value} {v : Option Value} (hL : jk_ K.2.2.1 ins y ws rc n) (hS : jx_Sp d' y ws vs S (.inl v) S1) (hr : jk_rk rc vs) (hst : stk = vs.reverse ++ st) (hn : vs.length = n) (hcat : (st.map fun v => v.category).sum ≤ 8) (hdd : d' + 1 ≤ K.2.2.2.1) (hd : decode K.1 pc = .ok (ins, 3)) (k : jg_ T K (pc + 3) lv (v.toList ++ st) S1) : jg_ T K pc lv stk S := by
  subst hst
  refine ⟨hS.1.tr k.1, fun z hC ad H locs ls kk u h => ?_⟩
  have hrun := jm_run hC hL hS hr hn hcat hdd hd k.1 h
  have hst : jo_s S st := fun v hv => h.os v (List.mem_append_right _ hv)
  intro T0 hT0 X
  rcases hrun T0 hT0 X with ⟨v0, st₀, t, T', L, h0, X', hLL, e1, e2, ⟨ad', ha, ⟨v', hv', hov, hok⟩, hH, hF⟩, go⟩ | ⟨q, st₀, t, T', L, E, ce, h0, X', hLL, e1, e2, ⟨ad', ha, ⟨a, hout, _⟩, _⟩, _⟩
  · cases hv'
    have hov : v0 = v.map (jw_v (jx_w z) ad') := by injection hov
    have hg := jm_back (st' := v.toList ++ st) h hS.1 h0 e1 hLL ha hH hF (jo_app (fun x hx => by
      cases v with
      | none => cases hx
      | some y9 => cases List.mem_singleton.mp hx; exact hok _ rfl) (hst.ext hS.1))
    obtain ⟨t2, a1, b1⟩ := k.2 z hC ad' T'.heap (locs ++ L) ls _ _ hg T' rfl X'
    refine ⟨t2, go t2 ?_, b1⟩
    rw [List.map_append, jm_map hst ha, ← jm_toL, ← hov] at a1
    exact a1
  · cases hout
/-- a call that throws -/
theorem jr_callX {ins : Instr} {y : MethodName} {ws : List Cond} {rc : Nat × String} {n d' : Nat} {vs stk : List Value} {a : Nat} (hL : jk_ K.2.2.1 ins y ws rc n) (hS : jx_Sp d' y ws vs S (.inr a) S1) (hr : jk_rk rc vs) (hst : stk = vs.reverse ++ st) (hn : vs.length = n) (hcat : (st.map fun v => v.category).sum ≤ 8) (hdd : d' + 1 ≤ K.2.2.2.1) (hd : decode K.1 pc = .ok (ins, 3)) (k : jg_x T K pc lv a S1) : jg_ T K pc lv stk S := by
  subst hst
  refine ⟨hS.1.tr k.1, fun z hC ad H locs ls kk u h => ?_⟩
  have hrun := jm_run hC hL hS hr hn hcat hdd hd k.1 h
  intro T0 hT0 X
  rcases hrun T0 hT0 X with ⟨v0, st₀, t, T', L, h0, X', hLL, e1, e2, ⟨ad', ha, ⟨v', hv', _⟩, _⟩, go⟩ | ⟨q, st₀, t, T', L, E, ce, h0, X', hLL, e1, e2, ⟨ad', ha, ⟨a', hout, hq, hok, _⟩, hH, hF⟩, _, _, _, go⟩
  · cases hv'
  · cases hout
    subst hq
    have hg := jm_back (st' := [.ref a]) h hS.1 h0 e1 hLL ha hH hF (jo_c (jo_r hok) jo_0)
    obtain ⟨t2, a1, b1⟩ := k.2 z hC ad' T'.heap (locs ++ L) ls _ _ (st.map (jw_v (jx_w z) ad)) hg T' rfl X'
    exact ⟨t2, go.trans a1, b1⟩
end JC
