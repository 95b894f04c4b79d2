/-! BASE I: returns, throws, handlers, a contract out of a walk -/
set_option maxRecDepth 100000
section JE
variable {z : jx_Z} {T : jx_T} {K : jx_K} {pc : Nat} {lv lv' : List (Nat × Value)} {st st' : List Value} {S S1 : so_St}
theorem jm_fin {z : jx_Z} {S0 S9 : so_St} {out : Option Value ⊕ Nat} (hC : jx_C z (S0, S9, out) K) {v : Option Value} {ad : Nat → Nat} {H : Heap} {locs : List Loc} {ls : Array Slot} {k u : Nat} (hv : out = .inl v) (h : jg_in z (S0, S9, out) K.2.1 lv v.toList S9 ad H locs ls k u) : ∀ t : State, t.heap = H → (jx_s z).WarmedH t.vm → jw_Q (jx_w z) (jx_d z) S0 S9 out (jx_a z) (jx_s z) (.returned (v.map (jw_v (jx_w z) ad))) t := fun t ht _ =>
  ⟨ad, h.2.1, ⟨v, hv, rfl, fun x e => h.os x (by rw [e]; exact List.mem_singleton.mpr rfl)⟩, by rw [ht]; exact h.1, h.hs.F ht⟩
theorem jm_cnt {z : jx_Z} {S0 S9 : so_St} {out : Option Value ⊕ Nat} {nL : Nat} {ad : Nat → Nat} {H : Heap} {locs : List Loc} {ls : Array Slot} {k u : Nat} (h : jg_in z (S0, S9, out) nL lv st S9 ad H locs ls k u) : k = S9.1 - S0.1 ∧ u = S9.2.1 - S0.2.1 := by
  have x3 : k + S0.1 = S9.1 := h.2.2.2.2.2.2.1
  have x4 : u + S0.2.1 = S9.2.1 := h.2.2.2.2.2.2.2.1
  exact ⟨by omega, by omega⟩
theorem jr_iret {S0 S9 : so_St} {v : Int32} {ty : FieldType} (hr : K.2.2.2.2.1 = some ty) (hn : narrow ty (.int v) = .int v) (hd : decode K.1 pc = .ok (.ireturn, 1)) : jg_ (S0, S9, .inl (some (.int v))) K pc lv [.int v] S9 := by
  refine ⟨so_Ext.rf _, fun z hC ad H locs ls kk u h => ?_⟩
  obtain ⟨rfl, rfl⟩ := jm_cnt h
  exact vx_ret (W.zret (v := v) hC.x hC.b (hC.r.trans hr) hn (jm_fin hC (v := some (.int v)) rfl h) h.hs.2.2 hd (hlocks := hC.lk))
theorem jr_lret {S0 S9 : so_St} {v : Int64} (hr : K.2.2.2.2.1 = some .long) (hd : decode K.1 pc = .ok (.lreturn, 1)) : jg_ (S0, S9, .inl (some (.long v))) K pc lv [.long v] S9 := by
  refine ⟨so_Ext.rf _, fun z hC ad H locs ls kk u h => ?_⟩
  obtain ⟨rfl, rfl⟩ := jm_cnt h
  exact vx_ret (W.lret (v := v) hC.x hC.b (hC.r.trans hr) (jm_fin hC (v := some (.long v)) rfl h) h.hs.2.2 hd (hlocks := hC.lk))
theorem jr_vret {S0 S9 : so_St} (hr : K.2.2.2.2.1 = none) (hd : decode K.1 pc = .ok (.return_, 1)) : jg_ (S0, S9, .inl none) K pc lv [] S9 := by
  refine ⟨so_Ext.rf _, fun z hC ad H locs ls kk u h => ?_⟩
  obtain ⟨rfl, rfl⟩ := jm_cnt h
  exact vx_ret (W.vret hC.x hC.b (hC.r.trans hr) (jm_fin hC (v := none) rfl h) h.hs.2.2 hd (hlocks := hC.lk))
theorem jr_aret {S0 S9 : so_St} {v : Value} {ty : FieldType} (hr : K.2.2.2.2.1 = some ty) (ht : (∃ n, ty = .object n) ∨ ∃ t, ty = .array t) (hv : jv_r v) (hd : decode K.1 pc = .ok (.areturn, 1)) : jg_ (S0, S9, .inl (some v)) K pc lv [v] S9 := by
  refine ⟨so_Ext.rf _, fun z hC ad H locs ls kk u h => ?_⟩
  obtain ⟨rfl, rfl⟩ := jm_cnt h
  exact vx_ret (W.aret (v := jw_v (jx_w z) ad v) hC.x hC.b (hC.r.trans hr) ht (jv_cr hv) (jm_fin hC (v := some v) rfl h) h.hs.2.2 hd (hlocks := hC.lk))
/-- what the machine's heap says of an object of the run -/
theorem jm_obj (hC : jx_C z T K) {ad : Nat → Nat} {H : Heap} {locs : List Loc} {ls : Array Slot} {k u a : Nat} (h : jg_in z T K.2.1 lv st S ad H locs ls k u) (ok : so_ok S a) (h29 : a % 64 < 29) (hb : a % 64 ≠ 26) : ∃ ce : Cell, H[ad a]? = some ce ∧ ce.vm = .none ∧ (jx_s z).vm.findClass (jw_nm (a % 64)) = some ce.cls ∧ 44 ≤ a / 64 := by
  have hbig := h.1.big ok (by omega) hb (by omega)
  have hg := jw_L_get (w := jx_w z) (ad := ad) ok hbig
  rw [jw_E_o h29] at hg
  obtain ⟨r, h1, ce, h2, h3, h4, -⟩ := h.1.2.1 _ _ hg
  have h1 : jw_cl[a % 64]? = some r := h1
  refine ⟨ce, h2, h4, ?_, hbig⟩
  have e : jw_nm (a % 64) = r.1 := by unfold jw_nm; rw [h1]
  rw [e, h3]
  exact (hC.U.1.1 _ r h1).2.1
/-- not caught: out of the method -/
theorem jr_out {S0 S9 : so_St} {a : Nat} (h29 : a % 64 < 29) (hb : a % 64 ≠ 26) (hout : K.2.2.2.2.2.2.all (fun x => !covers x pc) = true) : jg_x (S0, S9, .inr a) K pc lv a S9 := by
  refine ⟨so_Ext.rf _, fun z hC ad H locs ls kk u rest h => ?_⟩
  obtain ⟨rfl, rfl⟩ := jm_cnt h
  have ok : so_ok S9 a := h.os.h a rfl
  obtain ⟨ce, h1, h2, h3, h4⟩ := jm_obj hC h ok h29 hb
  refine vx_out (fun x hx => ?_) hC.lk h1 h2 h3 (fun t ht _ => ?_) h.hs.2.2 (Nat.le_refl _) (Nat.le_refl _)
  · rw [hC.tab] at hx
    have := List.all_eq_true.mp hout x hx
    cases g : covers x pc with
    | false => rfl
    | true => rw [g] at this; cases this
  · exact ⟨ad, h.2.1, ⟨a, rfl, rfl, ok, h4, h29, rfl⟩, by rw [ht]; exact h.1, h.hs.F ht⟩
/-- caught by the table's row x, the rows ahead don't take it -/
theorem jr_catch {a : Nat} (h29 : a % 64 < 29) (hb : a % 64 ≠ 26) (pre : List ExceptionTableEntry) (x : ExceptionTableEntry) (suf : List ExceptionTableEntry) (hsplit : K.2.2.2.2.2.2 = pre ++ x :: suf)
    (hpass : ∀ y ∈ pre, covers y pc = false ∨ (y.catchType ≠ 0 ∧ a % 64 = 27 ∧ Cond.classLink K.2.2.1 y.catchType "java/util/NoSuchElementException" ∈ lw_all)) (hx : covers x pc = true) (h0 : x.catchType ≠ 0) {name : String} (hlink : Cond.classLink K.2.2.1 x.catchType name ∈ lw_all) (hcast : Cond.castable (jw_nm (a % 64)) name ∈ lw_tbl)
    (k : jg_ T K x.handlerPc lv [.ref a] S) : jg_x T K pc lv a S := by
  refine ⟨k.1, fun z hC ad H locs ls kk u rest h => ?_⟩
  have ok : so_ok S a := h.os.h a rfl
  obtain ⟨ce, h1, h2, h3, h4⟩ := jm_obj hC h ok h29 hb
  have hk := k.2 z hC ad H locs ls kk u h
  have hk : jx_W z H locs kk u (jx_Q z T) (F0 (jx_m z) x.handlerPc ls [jw_v (jx_w z) ad (.ref a)]) := hk
  rw [jw_v_n (by omega)] at hk
  refine vx_catch hC.o pre x suf (hC.tab.trans hsplit) (fun y hy => ?_) hx h0 (hC.t _ hlink) (va_Nw.use rfl (hC.U.2.1 _ hcast rfl)) h1 h2 h3 hk
  rcases hpass y hy with g | ⟨g1, g2, g3⟩
  · exact Or.inl g
  · refine Or.inr ⟨g1, _, hC.t _ g3, ?_⟩
    rw [g2]
    exact hC.U.2.2.2.2.1
theorem jr_athrow {a : Nat} (ha : a % 64 ≠ 63) (hd : decode K.1 pc = .ok (.athrow, 1)) (k : jg_x T K pc lv a S) : jg_ T K pc lv (.ref a :: st) S := by
  refine ⟨k.1, fun z hC ad H locs ls kk u h => ?_⟩
  have hk := k.2 z hC ad H locs ls kk u (st.map (jw_v (jx_w z) ad)) (h.mv (jo_c h.os.h jo_0))
  show jx_W z H locs kk u (jx_Q z T) (F0 (jx_m z) pc ls (jw_v (jx_w z) ad (.ref a) :: st.map (jw_v (jx_w z) ad)))
  rw [jw_v_n ha]
  exact vx_athrow hC.x hC.b hd hk
end JE
theorem jm_len {w : jw_W} {ad : Nat → Nat} (vs : List Value) : (lg_sl (vs.map (jw_v w ad))).length = (lg_sl vs).length := by
  induction vs with
  | nil => rfl
  | cons v t ih =>
    have e : ∀ (a : Value) (b : List Value), (lg_sl (a :: b)).length = (if a.category = 2 then 2 else 1) + (lg_sl b).length := fun a b => by
      unfold lg_sl
      rw [List.flatMap_cons, List.length_append]
      by_cases q : a.category = 2
      · rw [if_pos q, if_pos q]; rfl
      · rw [if_neg q, if_neg q]; rfl
    rw [List.map_cons, e, e, jw_v_cat, ih]
theorem jm_args {w : jw_W} {ad : Nat → Nat} (vs : List Value) (i : Nat) : lv_args i (vs.map (jw_v w ad)) = (lv_args i vs).map (jw_lv w ad) := by
  induction vs generalizing i with
  | nil => rfl
  | cons v t ih =>
    show (i, jw_v w ad v) :: lv_args (if (jw_v w ad v).category = 2 then i + 2 else i + 1) (t.map (jw_v w ad)) = _
    rw [jw_v_cat, ih]
    rfl
theorem jm_argo {S : so_St} {vs : List Value} (h : jo_s S vs) {i : Nat} : jo_lv S (lv_args i vs) := by
  induction vs generalizing i with
  | nil => exact fun _ h => by cases h
  | cons v t ih =>
    intro q hq
    rcases List.mem_cons.mp (show q ∈ (i, v) :: lv_args (if v.category = 2 then i + 2 else i + 1) t from hq) with e | e
    · rw [e]; exact h.h
    · exact ih h.t q e
/-- a contract out of a walk: a method without handlers -/
theorem jx_of {d : Nat} {y : MethodName} {cc : ByteArray} {nL : Nat} {ret : Option FieldType} {vs : List Value} {S S' : so_St} {out : Option Value ⊕ Nat} (hy : plainFor y = true) (hl : (lg_sl vs).length ≤ nL) (body : jg_ (S, S', out) (cc, nL, y.cls, d, ret, y.name, []) 0 (lv_args 0 vs) [] S) : jx_Sp d y (ws_ y cc nL ret) vs S out S' := by
  refine ⟨body.1, fun l w ad htr hvs => ?_⟩
  refine vx_ofW (cc := cc) (maxL := nL) (ret := ret) hy rfl ?_
  intro p e s m args below meth c s₁ B hml htab hv
  obtain ⟨rfl, hH, hU, hbase⟩ := hv
  have hts := atoms_spec (ws := ws_ y cc nL ret) B.pre
  have hts : ∀ w ∈ lw_all, w.before _ s = true := fun w h => hts w (List.mem_cons_of_mem _ h)
  have hC : jx_C (p, l, e, (headSpec (ws_ y cc nL ret) (jx_rm d (S'.1 - S.1) (S'.2.1 - S.2.1))).room, s, m, (vs.map (jw_v w ad)).toArray, below, meth, c, w, ad) (S, S', out) (cc, nL, y.cls, d, ret, y.name, []) :=
    ⟨B.exec, B.bytes, hml, findClass_of_methodNamed B.named, hts, B.notSynchronized, rfl, hU, htr, hbase, B.returns, (name_of_methodNamed B.named B.method).1, by
      cases h : c.exceptionTable.toList with
      | nil => rfl
      | cons x t => exact (htab x (by rw [h]; exact List.mem_cons_self)).elim, hH.1⟩
  have hent := lv_entry (vs.map (jw_v w ad)) (n := nL) (by rw [jm_len]; exact hl)
  rw [lg_entry_eq]
  generalize (lg_sl (vs.map (jw_v w ad)) ++ List.replicate (nL - (lg_sl (vs.map (jw_v w ad))).length) Slot.unset).toArray = ls at hent ⊢
  rw [jm_args] at hent
  exact body.2 _ hC ad s.heap [] ls 0 0 ⟨hH, fun _ _ => rfl, va_S.rf, hent, jm_argo hvs, jo_0, Nat.zero_add _, Nat.zero_add _, so_Ext.rf _⟩
/-- .. with handlers -/
theorem jx_ofW {d : Nat} {y : MethodName} {cc : ByteArray} {nL : Nat} {ret : Option FieldType} {hh : List (Nat × Nat × Nat × Nat)} {vs : List Value} {S S' : so_St} {out : Option Value ⊕ Nat} (hy : plainName y.cls = true) (hl : (lg_sl vs).length ≤ nL) (body : jg_ (S, S', out) (cc, nL, y.cls, d, ret, y.name, tableOf hh) 0 (lv_args 0 vs) [] S) : jx_Sp d y (wsW_ y cc nL ret hh) vs S out S' := by
  refine ⟨body.1, fun l w ad htr hvs => ?_⟩
  refine vx_ofWH (cc := cc) (maxL := nL) (ret := ret) (hh := hh) hy rfl ?_
  intro p e s m args below meth c s₁ B hml hv
  obtain ⟨rfl, hH, hU, hbase⟩ := hv
  have hts0 := atoms_spec (ws := wsW_ y cc nL ret hh) B.pre
  have hts : ∀ w ∈ lw_all, w.before _ s = true := fun w h => hts0 w (List.mem_cons_of_mem _ h)
  have hC : jx_C (p, l, e, (headSpec (wsW_ y cc nL ret hh) (jx_rm d (S'.1 - S.1) (S'.2.1 - S.2.1))).room, s, m, (vs.map (jw_v w ad)).toArray, below, meth, c, w, ad) (S, S', out) (cc, nL, y.cls, d, ret, y.name, tableOf hh) :=
    ⟨B.exec, B.bytes, hml, findClass_of_methodNamed B.named, hts, B.notSynchronized, rfl, hU, htr, hbase, B.returns, (name_of_methodNamed B.named B.method).1, vx_table (x := y) B (hts0 _ List.mem_cons_self), hH.1⟩
  have hent := lv_entry (vs.map (jw_v w ad)) (n := nL) (by rw [jm_len]; exact hl)
  rw [lg_entry_eq]
  generalize (lg_sl (vs.map (jw_v w ad)) ++ List.replicate (nL - (lg_sl (vs.map (jw_v w ad))).length) Slot.unset).toArray = ls at hent ⊢
  rw [jm_args] at hent
  exact body.2 _ hC ad s.heap [] ls 0 0 ⟨hH, fun _ _ => rfl, va_S.rf, hent, jm_argo hvs, jo_0, Nat.zero_add _, Nat.zero_add _, so_Ext.rf _⟩
