/-! BASE G: stores of references, new cells, casts, constants -/
set_option maxRecDepth 100000
section JN
variable {z : jx_Z} {T : jx_T} {K : jx_K} {pc : Nat} {lv lv' : List (Nat × Value)} {st st' : List Value} {S S1 : so_St}
theorem jm_upR {ad : Nat → Nat} {w : jw_W} {f : Nat → Option Nat} {k b : Nat} : (fun j => jw_cr w ad (va_up f k (some b) j)) = va_up (fun j => jw_cr w ad (f j)) k (jw_cr w ad (some b)) := by
  funext j
  by_cases e : j = k
  · rw [e, va_up_self, va_up_self]
  · rw [va_up_ne _ _ e, va_up_ne _ _ e]
theorem jm_clo {w : jw_W} {ad : Nat → Nat} {H : Heap} {a b k : Nat} (h : jw_H w ad S H) (hb : so_ok S b) : ∀ j x, va_up (S.2.2.2 a).2.2.1 k (some b) j = some x → so_ok S x := fun j x e => by
  by_cases hj : j = k
  · rw [hj, va_up_self] at e
    cases e
    exact hb
  · rw [va_up_ne _ _ hj] at e
    exact h.2.2.2.2.1 a j x e
theorem jr_aastoreT {a b : Nat} {i : Int32} (hk : a % 64 = 54) (hv : b % 64 = 22) (hin : vp_in i (so_l S a)) (hd : decode K.1 pc = .ok (.aastore, 1)) (k9 : jg_ T K (pc + 1) lv st (so_sR S a i.toNatClampNeg (some b))) : jg_ T K pc lv (.ref b :: .int i :: .ref a :: st) S := by
  refine ⟨(so_Ext.up S a _).tr k9.1, fun z hC ad H locs ls kk u h => ?_⟩
  have ok : so_ok S a := h.os.t.t.h a rfl
  have okb : so_ok S b := h.os.h b rfl
  have hbig := h.1.big ok (by omega) (by omega) (by omega)
  have hbigb := h.1.big okb (by omega) (by omega) (by omega)
  have hg := jw_L_get (w := jx_w z) (ad := ad) ok hbig
  have hgb := jw_L_get (w := jx_w z) (ad := ad) okb hbigb
  rw [hk] at hg
  rw [hv, jw_E_o (by omega)] at hgb
  show jx_W z H locs kk u (jx_Q z T) (F0 (jx_m z) pc ls (jw_v (jx_w z) ad (.ref b) :: .int i :: jw_v (jx_w z) ad (.ref a) :: st.map (jw_v (jx_w z) ad)))
  rw [jw_v_n (by omega), jw_v_n (by omega)]
  refine va_astq (D := (jx_w z).1) (cl := jw_cl) (tys := jw_ty (jx_w z)) (r := (RX7, TX7, 11)) hC.x hC.b hC.U.1 h.1.2.1 h.1.2.2.1 h.hs _ 4 _ 22 hg rfl hgb rfl hin hd (fun H1 locs1 hP hD hS => ?_)
  have e := jw_L_set (w := jx_w z) (ad := ad) (c := ((S.2.2.2 a).1, (S.2.2.2 a).2.1, va_up (S.2.2.2 a).2.2.1 i.toNatClampNeg (some b), (S.2.2.2 a).2.2.2)) h.1.ks ok hbig
  have e2 : jw_E (jx_w z) ad (a % 64) ((S.2.2.2 a).1, (S.2.2.2 a).2.1, va_up (S.2.2.2 a).2.2.1 i.toNatClampNeg (some b), (S.2.2.2 a).2.2.2) = .inl ((jx_w z).2.1 4, (S.2.2.2 a).1, .inr (.inr (.inr (.inr (va_up (fun j => jw_cr (jx_w z) ad ((S.2.2.2 a).2.2.1 j)) i.toNatClampNeg (some (ad b))))))) := by
    rw [hk, ← jw_cr_n (w := jx_w z) (ad := ad) (a := b) (by omega), ← jm_upR]
    rfl
  rw [e2] at e
  exact k9.2 z hC ad H1 locs1 ls kk u (h.upd (h.1.upd hbig (e ▸ hP) (e ▸ hD) (jm_clo h.1 okb) (fun e => absurd e (by omega)) (fun e => absurd e (by omega))) hS h.os.t.t.t)
/-- into an Object[]: cells of classes that the tables say castable -/
def jca_ (ks : List Nat) : Prop := ∀ ci ∈ ks, ∃ q : vw_C, ci < 29 ∧ jw_cl[ci]? = some q ∧ Cond.castable q.1 "java/lang/Object" ∈ lw_tbl
theorem jr_aastoreO {a b : Nat} {i : Int32} {ks : List Nat} (hca : jca_ ks) (hk : a % 64 = 55) (hv : b % 64 ∈ ks) (h26 : 26 ∉ ks) (hin : vp_in i (so_l S a)) (hd : decode K.1 pc = .ok (.aastore, 1)) (k9 : jg_ T K (pc + 1) lv st (so_sR S a i.toNatClampNeg (some b))) : jg_ T K pc lv (.ref b :: .int i :: .ref a :: st) S := by
  refine ⟨(so_Ext.up S a _).tr k9.1, fun z hC ad H locs ls kk u h => ?_⟩
  obtain ⟨q, h29, hq, hcw⟩ := hca _ hv
  have ok : so_ok S a := h.os.t.t.h a rfl
  have okb : so_ok S b := h.os.h b rfl
  have hbig := h.1.big ok (by omega) (by omega) (by omega)
  have hbigb := jm_big h.1 okb hv (fun ci hc => (hca ci hc).choose_spec.1) (fun e => absurd e h26)
  have hg := jw_L_get (w := jx_w z) (ad := ad) ok hbig
  have hgb := jw_L_get (w := jx_w z) (ad := ad) okb hbigb
  rw [hk] at hg
  rw [jw_E_o h29] at hgb
  show jx_W z H locs kk u (jx_Q z T) (F0 (jx_m z) pc ls (jw_v (jx_w z) ad (.ref b) :: .int i :: jw_v (jx_w z) ad (.ref a) :: st.map (jw_v (jx_w z) ad)))
  rw [jw_v_n (by omega), jw_v_n (by omega)]
  refine va_astqO (D := (jx_w z).1) (cl := jw_cl) (tys := jw_ty (jx_w z)) (r := q) hC.x hC.b hC.U.1 h.1.2.1 h.1.2.2.1 h.hs _ 5 _ _ hg rfl (hC.U.2.1 _ hcw rfl) hgb hq hin hd (fun H1 locs1 hP hD hS => ?_)
  have e := jw_L_set (w := jx_w z) (ad := ad) (c := ((S.2.2.2 a).1, (S.2.2.2 a).2.1, va_up (S.2.2.2 a).2.2.1 i.toNatClampNeg (some b), (S.2.2.2 a).2.2.2)) h.1.ks ok hbig
  have e2 : jw_E (jx_w z) ad (a % 64) ((S.2.2.2 a).1, (S.2.2.2 a).2.1, va_up (S.2.2.2 a).2.2.1 i.toNatClampNeg (some b), (S.2.2.2 a).2.2.2) = .inl ((jx_w z).2.1 5, (S.2.2.2 a).1, .inr (.inr (.inr (.inr (va_up (fun j => jw_cr (jx_w z) ad ((S.2.2.2 a).2.2.1 j)) i.toNatClampNeg (some (ad b))))))) := by
    rw [hk, ← jw_cr_n (w := jx_w z) (ad := ad) (a := b) (by omega), ← jm_upR]
    rfl
  rw [e2] at e
  exact k9.2 z hC ad H1 locs1 ls kk u (h.upd (h.1.upd hbig (e ▸ hP) (e ▸ hD) (jm_clo h.1 okb) (fun e => absurd e (by omega)) (fun e => absurd e (by omega))) hS h.os.t.t.t)
/-- what holds behind a new cell -/
theorem jg_in.new {ad ad' : Nat → Nat} {H H1 : Heap} {locs locs1 : List Loc} {ls : Array Slot} {k u k' u' : Nat} (h : jg_in z T K.2.1 lv st S ad H locs ls k u) (hE : so_Ext S S1) (h1 : jw_H (jx_w z) ad' S1 H1) (ha : ∀ a, so_ok S a → ad' a = ad a) (h2 : va_S (jw_A (jx_w z)) (jx_s z).heap H1 locs1) (h3 : jo_s S1 st') (hk : k' + T.1.1 = S1.1) (hu : u' + T.1.2.1 = S1.2.1) : jg_in z T K.2.1 lv st' S1 ad' H1 locs1 ls k' u' := by
  refine ⟨h1, fun a g => (ha a (g.ext h.2.2.2.2.2.2.2.2)).trans (h.2.1 a g), h2, ?_, h.ol.ext hE, h3, hk, hu, h.2.2.2.2.2.2.2.2.tr hE⟩
  have e : lv.map (jw_lv (jx_w z) ad') = lv.map (jw_lv (jx_w z) ad) := List.map_congr_left (fun q hq => by
    show (q.1, jw_v (jx_w z) ad' q.2) = (q.1, jw_v (jx_w z) ad q.2)
    rw [jw_v_same (fun b e => ha b (h.ol q hq b e))])
  rw [e]
  exact h.hl
theorem jm_map {w : jw_W} {ad ad' : Nat → Nat} (hs : jo_s S st) (ha : ∀ a, so_ok S a → ad' a = ad a) : st.map (jw_v w ad') = st.map (jw_v w ad) := List.map_congr_left (fun v hv => jw_v_same (fun b e => ha b (hs v hv b e)))
theorem jr_new {idx ci N : Nat} (hN : jn_ K.2.2.1 idx ci N) (hd : decode K.1 pc = .ok (.new idx, 3)) (k9 : jg_ T K (pc + 3) lv (.ref (so_at S ci) :: st) (so_new S ci 0 N)) : jg_ T K pc lv st S := by
  refine ⟨(so_Ext.new S ci 0 N).tr k9.1, fun z hC ad H locs ls kk u h => ?_⟩
  obtain ⟨C, TT, ty, h29, hc, hin, hty, hlen, hdef, hcl, hins, hini⟩ := hN
  have x1 : S.1 + 1 ≤ T.2.1.1 := k9.1.1
  have x2 : S.2.1 + N ≤ T.2.1.2.1 := k9.1.2.1
  have x3 : kk + T.1.1 = S.1 := h.2.2.2.2.2.2.1
  have x4 : u + T.1.2.1 = S.2.1 := h.2.2.2.2.2.2.2.1
  have hs1 : kk + 1 ≤ (jx_R z).cells := by rw [hC.R]; show kk + 1 ≤ T.2.1.1 - T.1.1; omega
  have hs2 : u + N ≤ (jx_R z).slots := by rw [hC.R]; show u + N ≤ T.2.1.2.1 - T.1.2.1; omega
  refine va_new (D := (jx_w z).1) (cl := jw_cl) (tys := jw_ty (jx_w z)) (fs := jw_F (jx_w z) ad (jw_ft ci) (so_z 0)) hC.x hC.b hC.t hin ty hty hC.o (hC.t _ hcl) (hC.t _ hins) (hC.t _ hini) hC.U.1 h.1.2.1 h.1.2.2.1 h.hs hC.A hc (fun j hj => ?_) hs1 hs2 hd (fun q H1 hP hD hS => ?_)
  · rw [hdef j hj]
    unfold vp_V
    by_cases e : (jw_ft ci).getD j false = true
    · rw [if_pos e, List.getD_eq_getElem?_getD, jw_F_getR (by omega) e]
      rfl
    · have e : (jw_ft ci).getD j false = false := by cases g : (jw_ft ci).getD j false with | true => exact absurd g e | false => rfl
      rw [if_neg (by rw [e]; decide), List.getD_eq_getElem?_getD, jw_F_getI (by omega) e]
      rfl
  · have eE : (.inr (ci, jw_F (jx_w z) ad (jw_ft ci) (so_z 0)) : va_E) = jw_E (jx_w z) (va_up ad (so_at S ci) q) ci (so_z 0) := by
      rw [jw_E_same (ad := ad) (fun j b e => by cases e), jw_E_o h29]
    rw [eE] at hP hD
    obtain ⟨hH, ha⟩ := h.1.new (sz := N) (by omega) hP hD
    have hkk := k9.2 z hC (va_up ad (so_at S ci) q) H1 locs ls (kk + 1) (u + N) (h.new (so_Ext.new S ci 0 N) hH ha hS (jo_c (jo_r (so_ok_new S (by omega) 0 N)) (h.os.ext (so_Ext.new S ci 0 N))) (by show kk + 1 + T.1.1 = S.1 + 1; omega) (by show u + N + T.1.2.1 = S.2.1 + N; omega))
    have e0 : jw_v (jx_w z) (va_up ad (so_at S ci) q) (.ref (so_at S ci)) = .ref q := by
      rw [jw_v_n (by show (64 * S.1 + ci) % 64 ≠ 63; omega), va_up_self]
    rw [List.map_cons, e0, jm_map h.os ha] at hkk
    exact hkk
theorem jr_newarr {atype : ArrayType} {ty : FieldType} {k t0 : Nat} {n : Int32} {a0 : Nat → vp_A} (hty : newarray.typeOf atype = ty) (hw : Cond.arrayClass (newarray.typeOf atype) ∈ lw_all) (ht : ∀ w : jw_W, (jw_ty w)[t0]? = some (w.2.1 t0, ty)) (hE : ∀ (w : jw_W) (ad : Nat → Nat) (n : Nat), jw_E w ad k (so_z n) = .inl (w.2.1 t0, a0 n)) (ha0 : ∀ (cA : ClassId) (n : Nat), vp_cell cA (a0 n) = arrV cA n (fun _ => defaultValue ty)) (hRA : ∀ (U : State) (c : ClassId), va_RA U c ty → U.vm.findClass ("[" ++ ty.toString) = some c) (hk : k < 63) (hcb : componentBytes ty ≤ 8) (hn : ¬ n < 0) (hm : n.toNatClampNeg ≤ 100000) (hd : decode K.1 pc = .ok (.newarray atype, 2)) (k9 : jg_ T K (pc + 2) lv (.ref (so_at S k) :: st) (so_new S k n.toNatClampNeg n.toNatClampNeg)) : jg_ T K pc lv (.int n :: st) S := by
  refine ⟨(so_Ext.new S k _ _).tr k9.1, fun z hC ad H locs ls kk u h => ?_⟩
  have x1 : S.1 + 1 ≤ T.2.1.1 := k9.1.1
  have x2 : S.2.1 + n.toNatClampNeg ≤ T.2.1.2.1 := k9.1.2.1
  have x3 : kk + T.1.1 = S.1 := h.2.2.2.2.2.2.1
  have x4 : u + T.1.2.1 = S.2.1 := h.2.2.2.2.2.2.2.1
  have hs1 : kk + 1 ≤ (jx_R z).cells := by rw [hC.R]; show kk + 1 ≤ T.2.1.1 - T.1.1; omega
  have hs2 : u + n.toNatClampNeg ≤ (jx_R z).slots := by rw [hC.R]; show u + n.toNatClampNeg ≤ T.2.1.2.1 - T.1.2.1; omega
  have hby : n.toNatClampNeg * componentBytes ty ≤ 536870912 := Nat.le_trans (Nat.mul_le_mul hm hcb) (Nat.le_of_ble_eq_true rfl)
  refine va_newa (atype := atype) (ty := ty) (D := (jx_w z).1) (cl := jw_cl) (tys := jw_ty (jx_w z)) (a0 := a0 n.toNatClampNeg) hC.x hC.b (hC.t _ hw) hty hC.U.1 h.1.2.1 h.1.2.2.1 h.hs hC.A (fun cA => ha0 cA _) hn rfl hby hs1 hs2 hd (fun q cA H1 hK hP hD hS => ?_)
  have c1 : (jx_s z).vm.findClass ("[" ++ ty.toString) = some cA := by
    refine hRA _ _ (hK.2 (jw_ty (jx_w z)).length (cA, ty) ?_).2
    rw [List.getElem?_append_right (Nat.le_refl _), Nat.sub_self]
    rfl
  have c2 : (jx_s z).vm.findClass ("[" ++ ty.toString) = some ((jx_w z).2.1 t0) := hRA _ _ (hC.U.1.2 t0 _ (ht _)).2
  have ec : cA = (jx_w z).2.1 t0 := Option.some.inj (c1.symm.trans c2)
  rw [ec, ← hE (jx_w z) (va_up ad (so_at S k) q)] at hP hD
  obtain ⟨hH, ha⟩ := h.1.new (sz := n.toNatClampNeg) (by omega) hP hD
  have hkk := k9.2 z hC (va_up ad (so_at S k) q) H1 locs ls (kk + 1) (u + n.toNatClampNeg) (h.new (so_Ext.new S k _ _) hH ha hS (jo_c (jo_r (so_ok_new S (by omega) _ _)) (h.os.t.ext (so_Ext.new S k _ _))) (by show kk + 1 + T.1.1 = S.1 + 1; omega) (by show u + n.toNatClampNeg + T.1.2.1 = S.2.1 + n.toNatClampNeg; omega))
  have e0 : jw_v (jx_w z) (va_up ad (so_at S k) q) (.ref (so_at S k)) = .ref q := by
    rw [jw_v_n (by show (64 * S.1 + k) % 64 ≠ 63; omega), va_up_self]
  rw [List.map_cons, e0, jm_map h.os.t ha] at hkk
  exact hkk
theorem jr_newi {n : Int32} (hw : Cond.arrayClass .int ∈ lw_all) (hn : ¬ n < 0) (hm : n.toNatClampNeg ≤ 100000) (hd : decode K.1 pc = .ok (.newarray .int, 2)) (k9 : jg_ T K (pc + 2) lv (.ref (so_at S 50) :: st) (so_new S 50 n.toNatClampNeg n.toNatClampNeg)) : jg_ T K pc lv (.int n :: st) S :=
  jr_newarr (atype := .int) (ty := .int) (t0 := 0) (a0 := fun n => (n, .inl (fun _ => 0))) rfl hw (fun _ => rfl) (fun _ _ _ => rfl) (fun _ _ => rfl) (fun _ _ h => h) (by decide) (by decide) hn hm hd k9
theorem jr_newb {n : Int32} (hw : Cond.arrayClass .byte ∈ lw_all) (hn : ¬ n < 0) (hm : n.toNatClampNeg ≤ 100000) (hd : decode K.1 pc = .ok (.newarray .byte, 2)) (k9 : jg_ T K (pc + 2) lv (.ref (so_at S 51) :: st) (so_new S 51 n.toNatClampNeg n.toNatClampNeg)) : jg_ T K pc lv (.int n :: st) S :=
  jr_newarr (atype := .byte) (ty := .byte) (t0 := 1) (a0 := fun n => (n, .inl (fun _ => 0))) rfl hw (fun _ => rfl) (fun _ _ _ => rfl) (fun _ _ => rfl) (fun _ _ h => h) (by decide) (by decide) hn hm hd k9
theorem jr_newz {n : Int32} (hw : Cond.arrayClass .boolean ∈ lw_all) (hn : ¬ n < 0) (hm : n.toNatClampNeg ≤ 100000) (hd : decode K.1 pc = .ok (.newarray .boolean, 2)) (k9 : jg_ T K (pc + 2) lv (.ref (so_at S 52) :: st) (so_new S 52 n.toNatClampNeg n.toNatClampNeg)) : jg_ T K pc lv (.int n :: st) S :=
  jr_newarr (atype := .boolean) (ty := .boolean) (t0 := 2) (a0 := fun n => (n, .inl (fun _ => 0))) rfl hw (fun _ => rfl) (fun _ _ _ => rfl) (fun _ _ => rfl) (fun _ _ h => h) (by decide) (by decide) hn hm hd k9
theorem jr_newl {n : Int32} (hw : Cond.arrayClass .long ∈ lw_all) (hn : ¬ n < 0) (hm : n.toNatClampNeg ≤ 100000) (hd : decode K.1 pc = .ok (.newarray .long, 2)) (k9 : jg_ T K (pc + 2) lv (.ref (so_at S 53) :: st) (so_new S 53 n.toNatClampNeg n.toNatClampNeg)) : jg_ T K pc lv (.int n :: st) S :=
  jr_newarr (atype := .long) (ty := .long) (t0 := 3) (a0 := fun n => (n, .inr (.inl (fun _ => 0)))) rfl hw (fun _ => rfl) (fun _ _ _ => rfl) (fun _ _ => rfl) (fun _ _ h => h) (by decide) (by decide) hn hm hd k9
/-- new C[n]: C Terrace (kind 54) or Object (kind 55) -/
theorem jr_newq {C : String} {idx k t0 : Nat} {n : Int32} (hcl : Cond.classLink K.2.2.1 idx C ∈ lw_all) (hAO : ∀ z, jx_C z T K → va_AO C (jx_s z)) (ht : ∀ w : jw_W, (jw_ty w)[t0]? = some (w.2.1 t0, .object C)) (hE : ∀ (w : jw_W) (ad : Nat → Nat) (n : Nat), jw_E w ad k (so_z n) = .inl (w.2.1 t0, n, .inr (.inr (.inr (.inr (fun _ => none)))))) (hk : k < 63) (hn : ¬ n < 0) (hm : n.toNatClampNeg ≤ 100000) (hd : decode K.1 pc = .ok (.anewarray idx, 3)) (k9 : jg_ T K (pc + 3) lv (.ref (so_at S k) :: st) (so_new S k n.toNatClampNeg n.toNatClampNeg)) : jg_ T K pc lv (.int n :: st) S := by
  refine ⟨(so_Ext.new S k _ _).tr k9.1, fun z hC ad H locs ls kk u h => ?_⟩
  have x1 : S.1 + 1 ≤ T.2.1.1 := k9.1.1
  have x2 : S.2.1 + n.toNatClampNeg ≤ T.2.1.2.1 := k9.1.2.1
  have x3 : kk + T.1.1 = S.1 := h.2.2.2.2.2.2.1
  have x4 : u + T.1.2.1 = S.2.1 := h.2.2.2.2.2.2.2.1
  have hs1 : kk + 1 ≤ (jx_R z).cells := by rw [hC.R]; show kk + 1 ≤ T.2.1.1 - T.1.1; omega
  have hs2 : u + n.toNatClampNeg ≤ (jx_R z).slots := by rw [hC.R]; show u + n.toNatClampNeg ≤ T.2.1.2.1 - T.1.2.1; omega
  have hby : n.toNatClampNeg * 4 ≤ 536870912 := Nat.le_trans (Nat.mul_le_mul hm (Nat.le_refl 4)) (Nat.le_of_ble_eq_true rfl)
  refine va_newq (D := (jx_w z).1) (cl := jw_cl) (tys := jw_ty (jx_w z)) hC.x hC.b hC.o (hC.t _ hcl) (hAO z hC) hC.U.1 h.1.2.1 h.1.2.2.1 h.hs hC.A hn rfl hby hs1 hs2 hd (fun q cA H1 hK hP hD hS => ?_)
  have c1 : (jx_s z).vm.findClass ("[" ++ (FieldType.object C).toString) = some cA := by
    have g := (hK.2 (jw_ty (jx_w z)).length (cA, .object C) (by rw [List.getElem?_append_right (Nat.le_refl _), Nat.sub_self]; rfl)).2
    obtain ⟨kA, comp, -, -, -, g4⟩ := g
    exact g4
  have c2 : (jx_s z).vm.findClass ("[" ++ (FieldType.object C).toString) = some ((jx_w z).2.1 t0) := by
    obtain ⟨kA, comp, -, -, -, g4⟩ := (hC.U.1.2 t0 _ (ht _)).2
    exact g4
  have ec : cA = (jx_w z).2.1 t0 := Option.some.inj (c1.symm.trans c2)
  rw [ec, ← hE (jx_w z) (va_up ad (so_at S k) q)] at hP hD
  obtain ⟨hH, ha⟩ := h.1.new (sz := n.toNatClampNeg) (by omega) hP hD
  have hkk := k9.2 z hC (va_up ad (so_at S k) q) H1 locs ls (kk + 1) (u + n.toNatClampNeg) (h.new (so_Ext.new S k _ _) hH ha hS (jo_c (jo_r (so_ok_new S (by omega) _ _)) (h.os.t.ext (so_Ext.new S k _ _))) (by show kk + 1 + T.1.1 = S.1 + 1; omega) (by show u + n.toNatClampNeg + T.1.2.1 = S.2.1 + n.toNatClampNeg; omega))
  have e0 : jw_v (jx_w z) (va_up ad (so_at S k) q) (.ref (so_at S k)) = .ref q := by
    rw [jw_v_n (by show (64 * S.1 + k) % 64 ≠ 63; omega), va_up_self]
  rw [List.map_cons, e0, jm_map h.os.t ha] at hkk
  exact hkk
theorem jr_newT {idx : Nat} {n : Int32} (hcl : Cond.classLink K.2.2.1 idx "TunedHouses$Terrace" ∈ lw_all) (hn : ¬ n < 0) (hm : n.toNatClampNeg ≤ 100000) (hd : decode K.1 pc = .ok (.anewarray idx, 3)) (k9 : jg_ T K (pc + 3) lv (.ref (so_at S 54) :: st) (so_new S 54 n.toNatClampNeg n.toNatClampNeg)) : jg_ T K pc lv (.int n :: st) S :=
  jr_newq (k := 54) (t0 := 4) hcl (fun _ hC => hC.U.2.2.1) (fun _ => rfl) (fun _ _ _ => rfl) (by decide) hn hm hd k9
theorem jr_newO {idx : Nat} {n : Int32} (hcl : Cond.classLink K.2.2.1 idx "java/lang/Object" ∈ lw_all) (hn : ¬ n < 0) (hm : n.toNatClampNeg ≤ 100000) (hd : decode K.1 pc = .ok (.anewarray idx, 3)) (k9 : jg_ T K (pc + 3) lv (.ref (so_at S 55) :: st) (so_new S 55 n.toNatClampNeg n.toNatClampNeg)) : jg_ T K pc lv (.int n :: st) S :=
  jr_newq (k := 55) (t0 := 5) hcl (fun _ hC => hC.U.2.2.2.1) (fun _ => rfl) (fun _ _ _ => rfl) (by decide) hn hm hd k9
/-- the receiver's class in the machine's heap -/
theorem jm_recv (hC : jx_C z T K) {ad : Nat → Nat} {H : Heap} {locs : List Loc} {ls : Array Slot} {k u a : Nat} (h : jg_in z T K.2.1 lv st S ad H locs ls k u) (ok : so_ok S a) (h29 : a % 64 < 29) {q : vw_C} (hq : jw_cl[a % 64]? = some q) (hb : a % 64 = 26 → 44 ≤ a / 64) : ∃ cell : Cell, H[ad a]? = some cell ∧ cell.vm.isStatics = false ∧ (jx_s z).vm.findClass q.1 = some cell.cls := by
  have hbig : 44 ≤ a / 64 := by
    by_cases e : a % 64 = 26
    · exact hb e
    · exact h.1.big ok (by omega) e (by omega)
  have hg := jw_L_get (w := jx_w z) (ad := ad) ok hbig
  rw [jw_E_o h29] at hg
  exact va_recv hC.U.1 h.1.2.1 hq hg
theorem jr_cast {idx a : Nat} {ks : List Nat} (hF : jc_ K.2.2.1 idx ks) (hk : a % 64 ∈ ks) (h26 : 26 ∉ ks) (hd : decode K.1 pc = .ok (.checkcast idx, 3)) (k9 : jg_ T K (pc + 3) lv (.ref a :: st) S) : jg_ T K pc lv (.ref a :: st) S := by
  refine ⟨k9.1, fun z hC ad H locs ls kk u h => ?_⟩
  obtain ⟨q, nm, h29, hq, hcl, hca⟩ := hF _ hk
  have ok : so_ok S a := h.os.h a rfl
  have hr := jm_recv hC h ok h29 hq (fun e => absurd (e ▸ hk) h26)
  have hkk := k9.2 z hC ad H locs ls kk u h
  have hkk : jx_W z H locs kk u (jx_Q z T) (F0 (jx_m z) (pc + 3) ls (jw_v (jx_w z) ad (.ref a) :: st.map (jw_v (jx_w z) ad))) := hkk
  show jx_W z H locs kk u (jx_Q z T) (F0 (jx_m z) pc ls (jw_v (jx_w z) ad (.ref a) :: st.map (jw_v (jx_w z) ad)))
  rw [jw_v_n (by omega)] at hkk ⊢
  rcases hca with hca | hca
  · exact va_castY hC.x hC.b hC.o (hC.t _ hcl) (hC.U.2.1 _ hca rfl) hr hd hkk
  · subst hca
    exact va_castS hC.x hC.b hC.o (hC.t _ hcl) (hC.U.1.1 _ q hq).2 hr hd hkk
end JN
