/-! BASE K: switches, copies, exceptions made, grids -/
set_option maxRecDepth 100000
theorem jt_out {x : Int32} {lo hi : Int} (cs : List Int32) (hcs : (List.range (hi - lo + 1).toNat).all (fun i => cs.any (fun c => c.toInt == lo + (i : Int))) = true) (h : ∀ c ∈ cs, ¬ x = c) : x.toInt < lo ∨ hi < x.toInt := by
  rcases Int.lt_or_le x.toInt lo with q | q
  · exact Or.inl q
  · rcases Int.lt_or_le hi x.toInt with q2 | q2
    · exact Or.inr q2
    · have h1 := List.all_eq_true.mp hcs (x.toInt - lo).toNat (List.mem_range.mpr (by omega))
      obtain ⟨c, hc, e⟩ := List.any_eq_true.mp h1
      have e : c.toInt = lo + ((x.toInt - lo).toNat : Int) := by simpa using e
      have e2 : c.toInt = x.toInt := by omega
      exact absurd (Int32.toInt_inj.mp e2.symm) (h c hc)
theorem jt_dflt {x : Int32} {dflt : Int} : ∀ (ps : List (Int × Int)) (cs : List Int32), ps.all (fun p => cs.any (fun c => c.toInt == p.1)) = true → (∀ c ∈ cs, ¬ x = c) → Op.lookupswitch.offset ps dflt x.toInt = dflt
  | [], _, _, _ => rfl
  | (a, o) :: r, cs, hk, h => by
    rw [List.all_cons, Bool.and_eq_true] at hk
    rw [Op.lookupswitch.offset_cons, if_neg (fun e => ?_)]
    · exact jt_dflt r cs hk.2 h
    · obtain ⟨c, hc, g⟩ := List.any_eq_true.mp hk.1
      have g : c.toInt = a := by simpa using g
      exact h c hc (Int32.toInt_inj.mp (e.symm.trans g.symm))
section JO
variable {z : jx_Z} {T : jx_T} {K : jx_K} {pc : Nat} {lv lv' : List (Nat × Value)} {st st' : List Value} {S S1 : so_St}
theorem jr_tsIn {x : Int32} {dflt lo hi off : Int} {offs : Array Int} {len tgt : Nat} (c : Int32) (hx : x = c) (hd : decode K.1 pc = .ok (.tableswitch dflt lo hi offs, len)) (h1 : ¬ c.toInt < lo) (h2 : ¬ hi < c.toInt) (ho : offs[(c.toInt - lo).toNat]? = some off) (ht : (pc : Int) + off = (tgt : Int)) (k : jg_ T K tgt lv st S) : jg_ T K pc lv (.int x :: st) S := by
  subst hx
  exact jr_pure (fun h => h.t) (fun _ hC _ _ _ _ _ _ _ kk => lv_tableIn hC.x hC.b hd h1 h2 ho ht kk) k
theorem jr_tsOut {x : Int32} {dflt lo hi : Int} {offs : Array Int} {len tgt : Nat} (cs : List Int32) (hcs : (List.range (hi - lo + 1).toNat).all (fun i => cs.any (fun c => c.toInt == lo + (i : Int))) = true) (h : ∀ c ∈ cs, ¬ x = c) (hd : decode K.1 pc = .ok (.tableswitch dflt lo hi offs, len)) (ht : (pc : Int) + dflt = (tgt : Int)) (k : jg_ T K tgt lv st S) : jg_ T K pc lv (.int x :: st) S :=
  jr_pure (fun h => h.t) (fun _ hC _ _ _ _ _ _ _ kk => lv_tableOut hC.x hC.b hd (jt_out cs hcs h) ht kk) k
theorem jr_lsIn {x : Int32} {dflt off : Int} {ps : Array (Int × Int)} {len tgt : Nat} (c : Int32) (hx : x = c) (hd : decode K.1 pc = .ok (.lookupswitch dflt ps, len)) (hp : (ps.toList.zip (ps.toList.drop 1)).all (fun (a, next) => a.1 < next.1) = true) (ho : Op.lookupswitch.offset ps.toList dflt c.toInt = off) (ht : (pc : Int) + off = (tgt : Int)) (k : jg_ T K tgt lv st S) : jg_ T K pc lv (.int x :: st) S := by
  subst hx
  exact jr_pure (fun h => h.t) (fun _ hC _ _ _ _ _ _ _ kk => lv_lookup hC.x hC.b hd hp ho ht kk) k
theorem jr_lsOut {x : Int32} {dflt : Int} {ps : Array (Int × Int)} {len tgt : Nat} (cs : List Int32) (hcs : ps.toList.all (fun p => cs.any (fun c => c.toInt == p.1)) = true) (h : ∀ c ∈ cs, ¬ x = c) (hd : decode K.1 pc = .ok (.lookupswitch dflt ps, len)) (hp : (ps.toList.zip (ps.toList.drop 1)).all (fun (a, next) => a.1 < next.1) = true) (ht : (pc : Int) + dflt = (tgt : Int)) (k : jg_ T K tgt lv st S) : jg_ T K pc lv (.int x :: st) S :=
  jr_pure (fun h => h.t) (fun _ hC _ _ _ _ _ _ _ kk => lv_lookup hC.x hC.b hd hp (jt_dflt _ cs hcs h) ht kk) k
/-- System.arraycopy of ints -/
theorem jr_copyI {idx a b : Nat} {sp dp n : Int32} (h1 : Cond.methodLink K.2.2.1 idx arraycopyName ∈ lw_all) (h2 : Cond.native arraycopyName ∈ lw_all) (h3 : Cond.static arraycopyName ∈ lw_all) (h4 : Cond.initialized "java/lang/System" ∈ lw_all) (ha : a % 64 = 50) (hb : b % 64 = 50) (hs : ¬ sp < 0) (hp : ¬ dp < 0) (hn : ¬ n < 0) (hls : sp.toNatClampNeg + n.toNatClampNeg ≤ so_l S a) (hld : dp.toNatClampNeg + n.toNatClampNeg ≤ so_l S b) (hcat : (st.map fun v => v.category).sum ≤ 8) (hdd : 1 ≤ K.2.2.2.1) (hd : decode K.1 pc = .ok (.invokestatic idx, 3)) (k : jg_ T K (pc + 3) lv st (so_cpI S a b sp.toNatClampNeg dp.toNatClampNeg n.toNatClampNeg)) : jg_ T K pc lv (.int n :: .int dp :: .ref b :: .int sp :: .ref a :: st) S := by
  refine ⟨(so_Ext.up S b _).tr k.1, fun z hC ad H locs ls kk u h => ?_⟩
  have oka : so_ok S a := h.os.t.t.t.t.h a rfl
  have okb : so_ok S b := h.os.t.t.h b rfl
  have biga := h.1.big oka (by omega) (by omega) (by omega)
  have bigb := h.1.big okb (by omega) (by omega) (by omega)
  have ga := jw_L_get (w := jx_w z) (ad := ad) oka biga
  have gb := jw_L_get (w := jx_w z) (ad := ad) okb bigb
  rw [ha] at ga
  rw [hb] at gb
  show jx_W z H locs kk u (jx_Q z T) (F0 (jx_m z) pc ls (.int n :: .int dp :: jw_v (jx_w z) ad (.ref b) :: .int sp :: jw_v (jx_w z) ad (.ref a) :: st.map (jw_v (jx_w z) ad)))
  rw [jw_v_n (a := a) (by omega), jw_v_n (a := b) (by omega)]
  refine va_copyi (D := (jx_w z).1) (cl := jw_cl) (tys := jw_ty (jx_w z)) (ty := .int) hC.x hC.b (by rw [hC.ml]; exact h.hl.1.symm) hC.o (hC.t _ h1) (hC.t _ h2) (hC.t _ h3) (hC.t _ h4) hC.U.1 h.1.2.1 h.1.2.2.1 h.hs _ _ 0 0 ga gb rfl rfl rfl hs hp hn hls hld (fun _ _ => rfl) ?_ ?_ hd (fun H1 locs1 hP hD hS => ?_)
  · rw [hC.R]; exact hdd
  · rw [hC.R, jm_catS]
    have : nativeFrameWords "java/lang/System" "arraycopy" 5 + 11 ≤ 40 := by decide +kernel
    show _ ≤ 64 * K.2.2.2.1
    omega
  · have e := jw_L_set (w := jx_w z) (ad := ad) (c := ((S.2.2.2 b).1, va_cpy (S.2.2.2 a).2.1 (S.2.2.2 b).2.1 sp.toNatClampNeg dp.toNatClampNeg n.toNatClampNeg, (S.2.2.2 b).2.2)) h.1.ks okb bigb
    rw [hb] at e
    exact k.2 z hC ad H1 locs1 ls kk u (h.upd (h.1.upd bigb (e ▸ hP) (e ▸ hD) (fun j b9 e => h.1.2.2.2.2.1 b j b9 e) (fun e => absurd e (by omega)) (fun e => absurd e (by omega))) hS h.os.t.t.t.t.t)
theorem jm_cpyf {f g : Nat → Int32} {sp dp n : Nat} {ty : FieldType} (hf : ∀ j, fits ty (.int (f j)) = true) (hg : ∀ j, fits ty (.int (g j)) = true) : ∀ j, fits ty (.int (va_cpy f g sp dp n j)) = true := fun j => by
  unfold va_cpy
  by_cases c : dp ≤ j ∧ j < dp + n
  · rw [if_pos c]; exact hf _
  · rw [if_neg c]; exact hg _
theorem jr_copyB {idx a b : Nat} {sp dp n : Int32} (h1 : Cond.methodLink K.2.2.1 idx arraycopyName ∈ lw_all) (h2 : Cond.native arraycopyName ∈ lw_all) (h3 : Cond.static arraycopyName ∈ lw_all) (h4 : Cond.initialized "java/lang/System" ∈ lw_all) (ha : a % 64 = 51) (hb : b % 64 = 51) (biga : 44 ≤ a / 64) (bigb : 44 ≤ b / 64) (hs : ¬ sp < 0) (hp : ¬ dp < 0) (hn : ¬ n < 0) (hls : sp.toNatClampNeg + n.toNatClampNeg ≤ so_l S a) (hld : dp.toNatClampNeg + n.toNatClampNeg ≤ so_l S b) (hcat : (st.map fun v => v.category).sum ≤ 8) (hdd : 1 ≤ K.2.2.2.1) (hd : decode K.1 pc = .ok (.invokestatic idx, 3)) (k : jg_ T K (pc + 3) lv st (so_cpI S a b sp.toNatClampNeg dp.toNatClampNeg n.toNatClampNeg)) : jg_ T K pc lv (.int n :: .int dp :: .ref b :: .int sp :: .ref a :: st) S := by
  refine ⟨(so_Ext.up S b _).tr k.1, fun z hC ad H locs ls kk u h => ?_⟩
  have oka : so_ok S a := h.os.t.t.t.t.h a rfl
  have okb : so_ok S b := h.os.t.t.h b rfl
  have ga := jw_L_get (w := jx_w z) (ad := ad) oka biga
  have gb := jw_L_get (w := jx_w z) (ad := ad) okb bigb
  rw [ha] at ga
  rw [hb] at gb
  show jx_W z H locs kk u (jx_Q z T) (F0 (jx_m z) pc ls (.int n :: .int dp :: jw_v (jx_w z) ad (.ref b) :: .int sp :: jw_v (jx_w z) ad (.ref a) :: st.map (jw_v (jx_w z) ad)))
  rw [jw_v_n (a := a) (by omega), jw_v_n (a := b) (by omega)]
  refine va_copyi (D := (jx_w z).1) (cl := jw_cl) (tys := jw_ty (jx_w z)) (ty := .byte) hC.x hC.b (by rw [hC.ml]; exact h.hl.1.symm) hC.o (hC.t _ h1) (hC.t _ h2) (hC.t _ h3) (hC.t _ h4) hC.U.1 h.1.2.1 h.1.2.2.1 h.hs _ _ 1 1 ga gb rfl rfl rfl hs hp hn hls hld (fun _ _ => h.1.2.2.2.2.2.1 a _ ha) ?_ ?_ hd (fun H1 locs1 hP hD hS => ?_)
  · rw [hC.R]; exact hdd
  · rw [hC.R, jm_catS]
    have : nativeFrameWords "java/lang/System" "arraycopy" 5 + 11 ≤ 40 := by decide +kernel
    show _ ≤ 64 * K.2.2.2.1
    omega
  · have e := jw_L_set (w := jx_w z) (ad := ad) (c := ((S.2.2.2 b).1, va_cpy (S.2.2.2 a).2.1 (S.2.2.2 b).2.1 sp.toNatClampNeg dp.toNatClampNeg n.toNatClampNeg, (S.2.2.2 b).2.2)) h.1.ks okb bigb
    rw [hb] at e
    exact k.2 z hC ad H1 locs1 ls kk u (h.upd (h.1.upd bigb (e ▸ hP) (e ▸ hD) (fun j b9 e => h.1.2.2.2.2.1 b j b9 e) (fun _ => jm_cpyf (fun j => h.1.2.2.2.2.2.1 a j ha) (fun j => h.1.2.2.2.2.2.1 b j hb)) (fun e => absurd e (by omega))) hS h.os.t.t.t.t.t)
/-- the references that are copied are cells of the kinds ks, or null -/
def so_kds (S : so_St) (a sp n : Nat) (ks : List Nat) : Prop := ∀ i, i < n → ∀ b, so_R S a (sp + i) = some b → b % 64 ∈ ks
theorem jr_copyR {idx a b : Nat} {sp dp n : Int32} {ks : List Nat} (hca : jca_ ks) (h26 : 26 ∉ ks) (hkd : so_kds S a sp.toNatClampNeg n.toNatClampNeg ks) (h1 : Cond.methodLink K.2.2.1 idx arraycopyName ∈ lw_all) (h2 : Cond.native arraycopyName ∈ lw_all) (h3 : Cond.static arraycopyName ∈ lw_all) (h4 : Cond.initialized "java/lang/System" ∈ lw_all) (ha : a % 64 = 55) (hb : b % 64 = 55) (hs : ¬ sp < 0) (hp : ¬ dp < 0) (hn : ¬ n < 0) (hls : sp.toNatClampNeg + n.toNatClampNeg ≤ so_l S a) (hld : dp.toNatClampNeg + n.toNatClampNeg ≤ so_l S b) (hcat : (st.map fun v => v.category).sum ≤ 8) (hdd : 1 ≤ K.2.2.2.1) (hd : decode K.1 pc = .ok (.invokestatic idx, 3)) (k : jg_ T K (pc + 3) lv st (so_cpR S a b sp.toNatClampNeg dp.toNatClampNeg n.toNatClampNeg)) : jg_ T K pc lv (.int n :: .int dp :: .ref b :: .int sp :: .ref a :: st) S := by
  refine ⟨(so_Ext.up S b _).tr k.1, fun z hC ad H locs ls kk u h => ?_⟩
  have oka : so_ok S a := h.os.t.t.t.t.h a rfl
  have okb : so_ok S b := h.os.t.t.h b rfl
  have biga := h.1.big oka (by omega) (by omega) (by omega)
  have bigb := h.1.big okb (by omega) (by omega) (by omega)
  have ga := jw_L_get (w := jx_w z) (ad := ad) oka biga
  have gb := jw_L_get (w := jx_w z) (ad := ad) okb bigb
  rw [ha] at ga
  rw [hb] at gb
  show jx_W z H locs kk u (jx_Q z T) (F0 (jx_m z) pc ls (.int n :: .int dp :: jw_v (jx_w z) ad (.ref b) :: .int sp :: jw_v (jx_w z) ad (.ref a) :: st.map (jw_v (jx_w z) ad)))
  rw [jw_v_n (a := a) (by omega), jw_v_n (a := b) (by omega)]
  refine va_copyM (D := (jx_w z).1) (cl := jw_cl) (tys := jw_ty (jx_w z)) (E0 := "java/lang/Object") (E1 := "java/lang/Object") hC.x hC.b (by rw [hC.ml]; exact h.hl.1.symm) hC.o (hC.t _ h1) (hC.t _ h2) (hC.t _ h3) (hC.t _ h4) hC.U.1 h.1.2.1 h.1.2.2.1 h.hs _ _ 5 5 ga gb rfl rfl hs hp hn hls hld (fun i hi y e => ?_) ?_ ?_ hd (fun H1 locs1 hP hD hS => ?_)
  · have e : jw_cr (jx_w z) ad (so_R S a (sp.toNatClampNeg + i)) = some y := e
    cases er : so_R S a (sp.toNatClampNeg + i) with
    | none => rw [er] at e; cases e
    | some x =>
      have hx := hkd i hi x er
      obtain ⟨q, h29, hq, hcw⟩ := hca _ hx
      have okx := h.1.2.2.2.2.1 a _ x er
      have bigx := jm_big h.1 okx hx (fun ci hc => (hca ci hc).choose_spec.1) (fun e => absurd e h26)
      have gx := jw_L_get (w := jx_w z) (ad := ad) okx bigx
      rw [jw_E_o h29] at gx
      rw [er, jw_cr_n (by omega)] at e
      cases e
      refine va_rAny hC.U.1 h.1.2.1 gx hq (fun comp c0 f1 f2 => ?_)
      obtain ⟨c1, t1, g1, g2, g3⟩ := Cond.castable_spec (va_Nw.use (A := jx_a z) rfl (hC.U.2.1 _ hcw rfl))
      cases f2.symm.trans g1
      cases f1.symm.trans g2
      exact g3
  · rw [hC.R]; exact hdd
  · rw [hC.R, jm_catS]
    have : nativeFrameWords "java/lang/System" "arraycopy" 5 + 11 ≤ 40 := by decide +kernel
    show _ ≤ 64 * K.2.2.2.1
    omega
  · have e := jw_L_set (w := jx_w z) (ad := ad) (c := ((S.2.2.2 b).1, (S.2.2.2 b).2.1, va_cpy (S.2.2.2 a).2.2.1 (S.2.2.2 b).2.2.1 sp.toNatClampNeg dp.toNatClampNeg n.toNatClampNeg, (S.2.2.2 b).2.2.2)) h.1.ks okb bigb
    have e2 : jw_E (jx_w z) ad (b % 64) ((S.2.2.2 b).1, (S.2.2.2 b).2.1, va_cpy (S.2.2.2 a).2.2.1 (S.2.2.2 b).2.2.1 sp.toNatClampNeg dp.toNatClampNeg n.toNatClampNeg, (S.2.2.2 b).2.2.2) = .inl ((jx_w z).2.1 5, (S.2.2.2 b).1, .inr (.inr (.inr (.inr (va_cpy (fun j => jw_cr (jx_w z) ad ((S.2.2.2 a).2.2.1 j)) (fun j => jw_cr (jx_w z) ad ((S.2.2.2 b).2.2.1 j)) sp.toNatClampNeg dp.toNatClampNeg n.toNatClampNeg))))) := by
      have ef : (fun j => jw_cr (jx_w z) ad (va_cpy (S.2.2.2 a).2.2.1 (S.2.2.2 b).2.2.1 sp.toNatClampNeg dp.toNatClampNeg n.toNatClampNeg j)) = va_cpy (fun j => jw_cr (jx_w z) ad ((S.2.2.2 a).2.2.1 j)) (fun j => jw_cr (jx_w z) ad ((S.2.2.2 b).2.2.1 j)) sp.toNatClampNeg dp.toNatClampNeg n.toNatClampNeg := by
        funext j
        unfold va_cpy
        by_cases c : dp.toNatClampNeg ≤ j ∧ j < dp.toNatClampNeg + n.toNatClampNeg
        · rw [if_pos c, if_pos c]
        · rw [if_neg c, if_neg c]
      rw [hb, ← ef]
      rfl
    rw [e2] at e
    refine k.2 z hC ad H1 locs1 ls kk u (h.upd (h.1.upd bigb (e ▸ hP) (e ▸ hD) (fun j x e => ?_) (fun e => absurd e (by omega)) (fun e => absurd e (by omega))) hS h.os.t.t.t.t.t)
    have e : va_cpy (S.2.2.2 a).2.2.1 (S.2.2.2 b).2.2.1 sp.toNatClampNeg dp.toNatClampNeg n.toNatClampNeg j = some x := e
    unfold va_cpy at e
    by_cases c : dp.toNatClampNeg ≤ j ∧ j < dp.toNatClampNeg + n.toNatClampNeg
    · rw [if_pos c] at e
      exact h.1.2.2.2.2.1 a _ x e
    · rw [if_neg c] at e
      exact h.1.2.2.2.2.1 b _ x e
/-- new E(); dup; <init>: an exception without traces -/
theorem jr_make0 {cls : String} {names : List String} {ik ic ci : Nat} (hcls : Bundle.fit cls = true) (hnames : ∀ n ∈ names, Bundle.fit n = true) (hk : Cond.classLink K.2.2.1 ik cls ∈ lw_all) (hini : Cond.initialized cls ∈ lw_all) (hat : ∀ w ∈ vx_at0 K.2.2.1 ic cls names, w ∈ lw_tbl ∧ (goodWord w = true ∨ jw_isN w = true))
    (hgood : ∀ w ∈ Cond.classLink K.2.2.1 ik cls :: Cond.initialized cls :: vx_at0 K.2.2.1 ic cls names, vx_ot w = true) (h29 : ci < 29) (hft : jw_ft ci = []) (hc : jw_cl[ci]? = some (cls, jw_T0, 0) ) (hlen : names.length ≤ 2) (hcat : (st.map fun v => v.category).sum ≤ 8) (hdd : 6 ≤ K.2.2.2.1)
    (d0 : decode K.1 pc = .ok (.new ik, 3)) (d3 : decode K.1 (pc + 3) = .ok (.dup, 1)) (d4 : decode K.1 (pc + 4) = .ok (.invokespecial ic, 3)) (k : jg_ T K (pc + 7) lv (.ref (so_at S ci) :: st) (so_new S ci 0 6)) : jg_ T K pc lv st S := by
  refine ⟨(so_Ext.new S ci 0 6).tr k.1, fun z hC ad H locs ls kk u h => ?_⟩
  have x1 : S.1 + 1 ≤ T.2.1.1 := k.1.1
  have x2 : S.2.1 + 6 ≤ T.2.1.2.1 := k.1.2.1
  have x3 : kk + T.1.1 = S.1 := h.2.2.2.2.2.2.1
  have x4 : u + T.1.2.1 = S.2.1 := h.2.2.2.2.2.2.2.1
  have hs1 : kk + 1 ≤ (jx_R z).cells := by rw [hC.R]; show kk + 1 ≤ T.2.1.1 - T.1.1; omega
  have hs2 : u + 6 ≤ (jx_R z).slots := by rw [hC.R]; show u + 6 ≤ T.2.1.2.1 - T.1.2.1; omega
  have hz : ∀ {C n d : String} {r : Option Nat}, va_Z C n d (va_rf r) (jw_A (jx_w z)) (jx_s z) (jx_s z).heap → va_Zq C n d (jw_A (jx_w z)) (jx_s z) (jx_s z).heap := fun {C n d r} g => by
    cases r with
    | none => exact Or.inl g
    | some a => exact Or.inr ⟨a, g⟩
  refine vx_make0 (D := (jx_w z).1) (cl := jw_cl) (tys := jw_ty (jx_w z)) (T0 := jw_T0) (A := jw_A (jx_w z)) hC.x hC.b hC.tr hC.o hcls hnames (hC.t _ hk) (hC.t _ hini) (fun w hw => ?_) hgood ⟨hz hC.U.2.2.2.2.2.2.1, hC.U.2.2.2.2.2.2.2.2.1⟩ ⟨hz hC.U.2.2.2.2.2.2.2.1, hC.U.2.2.2.2.2.2.2.2.2.1⟩ h.hs (by rw [hC.ml]; exact h.hl.1) d0 d3 d4 hC.U.1 h.1.2.1 h.1.2.2.1 hC.A hc ?_ ?_ hs1 hs2 (fun q H1 hP hD hS => ?_)
  · obtain ⟨g1, g2⟩ := hat w hw
    rcases g2 with g2 | g2
    · exact hC.t _ (lw_g g1 g2)
    · have := hC.U.2.1 w g1 g2
      cases w with
      | arrayOver ty => exact jw_ao rfl this
      | _ => exact va_Nw.use (by first | rfl | cases g2) this
  · rw [hC.R]
    show names.length + 3 < K.2.2.2.1
    omega
  · rw [hC.R, jm_catS]
    show _ ≤ 64 * K.2.2.2.1
    omega
  · have eE : (.inr (ci, []) : va_E) = jw_E (jx_w z) (va_up ad (so_at S ci) q) ci (so_z 0) := by
      rw [jw_E_o h29, hft]
      rfl
    rw [eE] at hP hD
    obtain ⟨hH, ha⟩ := h.1.new (sz := 6) (by omega) hP hD
    have hkk := k.2 z hC (va_up ad (so_at S ci) q) H1 locs ls (kk + 1) (u + 6) (h.new (so_Ext.new S ci 0 6) hH ha hS (jo_c (jo_r (so_ok_new S (by omega) 0 6)) (h.os.ext (so_Ext.new S ci 0 6))) (by show kk + 1 + T.1.1 = S.1 + 1; omega) (by show u + 6 + T.1.2.1 = S.2.1 + 6; omega))
    have e0 : jw_v (jx_w z) (va_up ad (so_at S ci) q) (.ref (so_at S ci)) = .ref q := by
      rw [jw_v_n (by show (64 * S.1 + ci) % 64 ≠ 63; omega), va_up_self]
    rw [List.map_cons, e0, jm_map h.os ha] at hkk
    exact hkk
end JO
set_option maxHeartbeats 4000000 in
theorem jm_at0 : (vx_at0 RX1 145 "java/lang/IllegalArgumentException" ["java/lang/RuntimeException", "java/lang/Exception"]) = ([104, 201, 210, 214, 217, 219, 202, 203, 155, 156, 204, 209, 215, 456, 191, 457, 193, 458, 195, 205, 207, 197, 875, 876, 877, 878, 182, 878, 879, 880, 881, 184, 881, 882, 883, 202, 186, 874, 180, 181, 188, 189, 190, 192, 194, 196, 454, 199, 198] : List Nat).filterMap (fun i => lw_tbl[i]?) := by decide +kernel
set_option maxHeartbeats 4000000 in
theorem jm_at1 : (vx_at0 RX1 148 "java/util/NoSuchElementException" ["java/lang/RuntimeException", "java/lang/Exception"]) = ([104, 201, 210, 214, 217, 219, 202, 203, 155, 156, 204, 209, 215, 456, 191, 457, 193, 458, 195, 205, 207, 197, 1721, 1722, 1723, 878, 182, 878, 879, 880, 881, 184, 881, 882, 883, 202, 186, 1720, 1712, 1713, 1714, 213, 1715, 1716, 1717, 1718, 454, 199, 1719] : List Nat).filterMap (fun i => lw_tbl[i]?) := by decide +kernel
theorem jm_atp {L : List Cond} {ps : List Nat} (e : L = ps.filterMap (fun i => lw_tbl[i]?)) (hg : L.all (fun w => goodWord w || jw_isN w) = true) : ∀ w ∈ L, w ∈ lw_tbl ∧ (goodWord w = true ∨ jw_isN w = true) := fun w hw => by
  have h1 := List.all_eq_true.mp hg w hw
  rw [e] at hw
  obtain ⟨i, -, hi⟩ := List.mem_filterMap.mp hw
  exact ⟨List.mem_of_getElem? hi, by simpa using h1⟩
theorem jm_iae : ∀ w ∈ vx_at0 RX1 145 "java/lang/IllegalArgumentException" ["java/lang/RuntimeException", "java/lang/Exception"], w ∈ lw_tbl ∧ (goodWord w = true ∨ jw_isN w = true) := jm_atp jm_at0 (by decide +kernel)
theorem jm_nse : ∀ w ∈ vx_at0 RX1 148 "java/util/NoSuchElementException" ["java/lang/RuntimeException", "java/lang/Exception"], w ∈ lw_tbl ∧ (goodWord w = true ∨ jw_isN w = true) := jm_atp jm_at1 (by decide +kernel)
theorem jm_iaeg : ∀ w ∈ Cond.classLink RX1 143 "java/lang/IllegalArgumentException" :: Cond.initialized "java/lang/IllegalArgumentException" :: vx_at0 RX1 145 "java/lang/IllegalArgumentException" ["java/lang/RuntimeException", "java/lang/Exception"], vx_ot w = true := List.all_eq_true.mp (by decide +kernel)
theorem jm_nseg : ∀ w ∈ Cond.classLink RX1 146 "java/util/NoSuchElementException" :: Cond.initialized "java/util/NoSuchElementException" :: vx_at0 RX1 148 "java/util/NoSuchElementException" ["java/lang/RuntimeException", "java/lang/Exception"], vx_ot w = true := List.all_eq_true.mp (by decide +kernel)
