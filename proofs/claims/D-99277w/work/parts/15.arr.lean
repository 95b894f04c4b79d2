/-! BASE F: arrays, new cells, casts -/
set_option maxRecDepth 100000
theorem jm_cb {w : jw_W} {ad : Nat → Nat} {S : so_St} {H : Heap} {a : Nat} (h : jw_H w ad S H) (ok : so_ok S a) (h1 : a % 64 = 51) (h2 : a / 64 < 44) : ∃ i, i < 20 ∧ a = 64 * (3 + 2 * i) + 51 ∧ so_l S a = jw_len.getD i 0 ∧ ∀ j, so_I S a j = (jw_byt.getD i []).getD j 0 := by
  have e := (h.2.2.2.1 _ h2).1
  have ec := (h.2.2.2.1 _ h2).2
  rw [ok.2, h1] at e
  have hodd : ¬ (a / 64 < 2 ∨ 42 ≤ a / 64) ∧ ¬ a / 64 % 2 = 0 := by
    unfold jw_k0 at e
    by_cases c : a / 64 < 2 ∨ 42 ≤ a / 64
    · rw [if_pos c] at e
      cases e
    · rw [if_neg c] at e
      by_cases c2 : a / 64 % 2 = 0
      · rw [if_pos c2] at e
        cases e
      · exact ⟨c, c2⟩
  rw [← e] at ec
  have ea : 64 * (a / 64) + 51 = a := by omega
  rw [ea] at ec
  refine ⟨(a / 64 - 3) / 2, by omega, by omega, ?_, fun j => ?_⟩
  · show (S.2.2.2 a).1 = _
    rw [ec, jw_c0, if_neg hodd.1, if_neg hodd.2]
  · show (S.2.2.2 a).2.1 j = _
    rw [ec, jw_c0, if_neg hodd.1, if_neg hodd.2]
theorem jm_cs {w : jw_W} {ad : Nat → Nat} {S : so_St} {H : Heap} {a : Nat} (h : jw_H w ad S H) (ok : so_ok S a) (h1 : a % 64 = 26) (h2 : a / 64 < 44) : ∃ i, i < 20 ∧ a = 64 * (2 + 2 * i) + 26 ∧ so_I S a 1 = 0 ∧ so_R S a 0 = some (64 * (3 + 2 * i) + 51) := by
  have e := (h.2.2.2.1 _ h2).1
  have ec := (h.2.2.2.1 _ h2).2
  rw [ok.2, h1] at e
  have hev : ¬ (a / 64 < 2 ∨ 42 ≤ a / 64) ∧ a / 64 % 2 = 0 := by
    unfold jw_k0 at e
    by_cases c : a / 64 < 2 ∨ 42 ≤ a / 64
    · rw [if_pos c] at e
      cases e
    · rw [if_neg c] at e
      by_cases c2 : a / 64 % 2 = 0
      · exact ⟨c, c2⟩
      · rw [if_neg c2] at e
        cases e
  rw [← e] at ec
  have ea : 64 * (a / 64) + 26 = a := by omega
  rw [ea] at ec
  refine ⟨(a / 64 - 2) / 2, by omega, by omega, ?_, ?_⟩
  · show (S.2.2.2 a).2.1 1 = _
    rw [ec, jw_c0, if_neg hev.1, if_pos hev.2]
  · show (S.2.2.2 a).2.2.1 0 = _
    rw [ec, jw_c0, if_neg hev.1, if_pos hev.2]
    show (if 0 = 0 then some (64 * (a / 64 + 1) + 51) else none) = _
    rw [if_pos rfl]
    have : a / 64 + 1 = 3 + 2 * ((a / 64 - 2) / 2) := by omega
    rw [this]
/-- a class that new makes: own's entry idx, the kind ci, N fields -/
def jn_ (own : String) (idx ci N : Nat) : Prop := ∃ (C : String) (T : u_T) (ty : Nat → FieldType), ci < 29 ∧ jw_cl[ci]? = some (C, T, N) ∧ (∀ w ∈ u_ws C T N, w ∈ lw_all) ∧ (∀ k, k < N → parseFieldDescriptor (T k).2.2.1 = some (ty k)) ∧ (jw_ft ci).length = N ∧ (∀ j, j < N → defaultValue (ty j) = if (jw_ft ci).getD j false = true then .null else .int 0) ∧ Cond.classLink own idx C ∈ lw_all ∧ Cond.instantiable C N ∈ lw_all ∧ Cond.initialized C ∈ lw_all
/-- a cast: own's entry idx, of cells of the kinds ks -/
def jc_ (own : String) (idx : Nat) (ks : List Nat) : Prop := ∀ ci ∈ ks, ∃ (q : vw_C) (nm : String), ci < 29 ∧ jw_cl[ci]? = some q ∧ Cond.classLink own idx nm ∈ lw_all ∧ (Cond.castable q.1 nm ∈ lw_tbl ∨ q.1 = nm)
section JA
variable {z : jx_Z} {T : jx_T} {K : jx_K} {pc : Nat} {lv lv' : List (Nat × Value)} {st st' : List Value} {S S1 : so_St}
theorem jm_ad (hC : jx_C z T K) {ad : Nat → Nat} {H : Heap} {locs : List Loc} {ls : Array Slot} {k u a : Nat} (h : jg_in z T K.2.1 lv st S ad H locs ls k u) (ok : so_ok S a) (h2 : a / 64 < 44) : ad a = jx_d z a := by
  have hE := h.2.2.2.2.2.2.2.2
  have h43 := hC.k44
  exact h.2.1 a ⟨by omega, by rw [← hE.2.2 _ (by omega)]; exact ok.2⟩
theorem jr_iaload {a : Nat} {i : Int32} (hk : a % 64 = 50) (hin : vp_in i (so_l S a)) (hd : decode K.1 pc = .ok (.iaload, 1)) (k9 : jg_ T K (pc + 1) lv (.int (so_I S a i.toNatClampNeg) :: st) S) : jg_ T K pc lv (.int i :: .ref a :: st) S := by
  refine ⟨k9.1, fun z hC ad H locs ls kk u h => ?_⟩
  have ok : so_ok S a := h.os.t.h a rfl
  have hg := jw_L_get (w := jx_w z) (ad := ad) ok (h.1.big ok (by omega) (by omega) (by omega))
  rw [hk] at hg
  show jx_W z H locs kk u (jx_Q z T) (F0 (jx_m z) pc ls (.int i :: jw_v (jx_w z) ad (.ref a) :: st.map (jw_v (jx_w z) ad)))
  rw [jw_v_n (by omega)]
  exact va_iald (D := (jx_w z).1) (cl := jw_cl) (tys := jw_ty (jx_w z)) hC.x hC.b hC.U.1 h.1.2.1 _ 0 hg rfl hin hd (k9.2 z hC ad H locs ls kk u (h.mv (jo_c jo_i h.os.t.t)))
theorem jr_laload {a : Nat} {i : Int32} (hk : a % 64 = 53) (hin : vp_in i (so_l S a)) (hd : decode K.1 pc = .ok (.laload, 1)) (k9 : jg_ T K (pc + 1) lv (.long (so_L S a i.toNatClampNeg) :: st) S) : jg_ T K pc lv (.int i :: .ref a :: st) S := by
  refine ⟨k9.1, fun z hC ad H locs ls kk u h => ?_⟩
  have ok : so_ok S a := h.os.t.h a rfl
  have hg := jw_L_get (w := jx_w z) (ad := ad) ok (h.1.big ok (by omega) (by omega) (by omega))
  rw [hk] at hg
  show jx_W z H locs kk u (jx_Q z T) (F0 (jx_m z) pc ls (.int i :: jw_v (jx_w z) ad (.ref a) :: st.map (jw_v (jx_w z) ad)))
  rw [jw_v_n (by omega)]
  exact va_lald (D := (jx_w z).1) (cl := jw_cl) (tys := jw_ty (jx_w z)) hC.x hC.b hC.U.1 h.1.2.1 _ 3 hg rfl hin hd (k9.2 z hC ad H locs ls kk u (h.mv (jo_c jo_l h.os.t.t)))
theorem jr_zaload {a : Nat} {i : Int32} (hk : a % 64 = 52) (hin : vp_in i (so_l S a)) (hd : decode K.1 pc = .ok (.baload, 1)) (k9 : jg_ T K (pc + 1) lv (.int (so_I S a i.toNatClampNeg) :: st) S) : jg_ T K pc lv (.int i :: .ref a :: st) S := by
  refine ⟨k9.1, fun z hC ad H locs ls kk u h => ?_⟩
  have ok : so_ok S a := h.os.t.h a rfl
  have hg := jw_L_get (w := jx_w z) (ad := ad) ok (h.1.big ok (by omega) (by omega) (by omega))
  rw [hk] at hg
  show jx_W z H locs kk u (jx_Q z T) (F0 (jx_m z) pc ls (.int i :: jw_v (jx_w z) ad (.ref a) :: st.map (jw_v (jx_w z) ad)))
  rw [jw_v_n (by omega)]
  exact va_zald (D := (jx_w z).1) (cl := jw_cl) (tys := jw_ty (jx_w z)) hC.x hC.b hC.U.1 h.1.2.1 _ 2 hg rfl hin hd (k9.2 z hC ad H locs ls kk u (h.mv (jo_c jo_i h.os.t.t)))
theorem jr_baload {a : Nat} {i : Int32} (hk : a % 64 = 51) (hin : vp_in i (so_l S a)) (hd : decode K.1 pc = .ok (.baload, 1)) (k9 : jg_ T K (pc + 1) lv (.int (so_I S a i.toNatClampNeg) :: st) S) : jg_ T K pc lv (.int i :: .ref a :: st) S := by
  refine ⟨k9.1, fun z hC ad H locs ls kk u h => ?_⟩
  have ok : so_ok S a := h.os.t.h a rfl
  show jx_W z H locs kk u (jx_Q z T) (F0 (jx_m z) pc ls (.int i :: jw_v (jx_w z) ad (.ref a) :: st.map (jw_v (jx_w z) ad)))
  rw [jw_v_n (by omega)]
  have hkk := k9.2 z hC ad H locs ls kk u (h.mv (jo_c jo_i h.os.t.t))
  rcases Nat.lt_or_ge (a / 64) 44 with q | q
  · obtain ⟨i0, hi0, ea, el, eb⟩ := jm_cb h.1 ok hk q
    have hT := (hC.U.2.2.2.2.2.2.2.2.2.2.2.2.1 i0 hi0).2.2.2
    rw [← ea, ← el] at hT
    rw [jm_ad hC h ok q]
    exact va_tb hC.x hC.b hT h.hs hin (v := .int (so_I S a i.toNatClampNeg)) (by rw [eb]) hd hkk
  · have hg := jw_L_get (w := jx_w z) (ad := ad) ok q
    rw [hk] at hg
    exact va_bald (D := (jx_w z).1) (cl := jw_cl) (tys := jw_ty (jx_w z)) hC.x hC.b hC.U.1 h.1.2.1 _ 1 hg rfl hin hd hkk
theorem jr_alenB {a : Nat} (hk : a % 64 = 51) (hd : decode K.1 pc = .ok (.arraylength, 1)) (k9 : jg_ T K (pc + 1) lv (.int (Int32.ofNat (so_l S a)) :: st) S) : jg_ T K pc lv (.ref a :: st) S := by
  refine ⟨k9.1, fun z hC ad H locs ls kk u h => ?_⟩
  have ok : so_ok S a := h.os.h a rfl
  show jx_W z H locs kk u (jx_Q z T) (F0 (jx_m z) pc ls (jw_v (jx_w z) ad (.ref a) :: st.map (jw_v (jx_w z) ad)))
  rw [jw_v_n (by omega)]
  have hkk := k9.2 z hC ad H locs ls kk u (h.mv (jo_c jo_i h.os.t))
  rcases Nat.lt_or_ge (a / 64) 44 with q | q
  · obtain ⟨i0, hi0, ea, el, eb⟩ := jm_cb h.1 ok hk q
    have hT := (hC.U.2.2.2.2.2.2.2.2.2.2.2.2.1 i0 hi0).2.2.2
    rw [← ea, ← el] at hT
    rw [jm_ad hC h ok q]
    exact va_tlen hC.x hC.b hT h.hs rfl hd hkk
  · have hg := jw_L_get (w := jx_w z) (ad := ad) ok q
    rw [hk] at hg
    exact va_alen (D := (jx_w z).1) (cl := jw_cl) (tys := jw_ty (jx_w z)) hC.x hC.b hC.U.1 h.1.2.1 _ 1 hg rfl rfl hd hkk
theorem jr_alen {a : Nat} (hk : a % 64 ∈ ([50, 52, 53, 54, 55, 56] : List Nat)) (hd : decode K.1 pc = .ok (.arraylength, 1)) (k9 : jg_ T K (pc + 1) lv (.int (Int32.ofNat (so_l S a)) :: st) S) : jg_ T K pc lv (.ref a :: st) S := by
  refine ⟨k9.1, fun z hC ad H locs ls kk u h => ?_⟩
  have ok : so_ok S a := h.os.h a rfl
  simp only [List.mem_cons, List.not_mem_nil, or_false] at hk
  have hg := jw_L_get (w := jx_w z) (ad := ad) ok (h.1.big ok (by omega) (by omega) (by omega))
  show jx_W z H locs kk u (jx_Q z T) (F0 (jx_m z) pc ls (jw_v (jx_w z) ad (.ref a) :: st.map (jw_v (jx_w z) ad)))
  rw [jw_v_n (by omega)]
  have hkk := k9.2 z hC ad H locs ls kk u (h.mv (jo_c jo_i h.os.t))
  rcases hk with e | e | e | e | e | e
  · rw [e] at hg
    exact va_alen (D := (jx_w z).1) (cl := jw_cl) (tys := jw_ty (jx_w z)) hC.x hC.b hC.U.1 h.1.2.1 _ 0 hg rfl rfl hd hkk
  · rw [e] at hg
    exact va_alen (D := (jx_w z).1) (cl := jw_cl) (tys := jw_ty (jx_w z)) hC.x hC.b hC.U.1 h.1.2.1 _ 2 hg rfl rfl hd hkk
  · rw [e] at hg
    exact va_alen (D := (jx_w z).1) (cl := jw_cl) (tys := jw_ty (jx_w z)) hC.x hC.b hC.U.1 h.1.2.1 _ 3 hg rfl rfl hd hkk
  · rw [e] at hg
    exact va_alen (D := (jx_w z).1) (cl := jw_cl) (tys := jw_ty (jx_w z)) hC.x hC.b hC.U.1 h.1.2.1 _ 4 hg rfl rfl hd hkk
  · rw [e] at hg
    exact va_alen (D := (jx_w z).1) (cl := jw_cl) (tys := jw_ty (jx_w z)) hC.x hC.b hC.U.1 h.1.2.1 _ 5 hg rfl rfl hd hkk
  · rw [e] at hg
    exact va_alen (D := (jx_w z).1) (cl := jw_cl) (tys := jw_ty (jx_w z)) hC.x hC.b hC.U.1 h.1.2.1 _ 6 hg rfl rfl hd hkk
theorem jr_iastore {a : Nat} {i x : Int32} (hk : a % 64 = 50) (hin : vp_in i (so_l S a)) (hd : decode K.1 pc = .ok (.iastore, 1)) (k9 : jg_ T K (pc + 1) lv st (so_sI S a i.toNatClampNeg x)) : jg_ T K pc lv (.int x :: .int i :: .ref a :: st) S := by
  refine ⟨(so_Ext.up S a _).tr k9.1, fun z hC ad H locs ls kk u h => ?_⟩
  have ok : so_ok S a := h.os.t.t.h a rfl
  have hbig := h.1.big ok (by omega) (by omega) (by omega)
  have hg := jw_L_get (w := jx_w z) (ad := ad) ok hbig
  rw [hk] at hg
  show jx_W z H locs kk u (jx_Q z T) (F0 (jx_m z) pc ls (.int x :: .int i :: jw_v (jx_w z) ad (.ref a) :: st.map (jw_v (jx_w z) ad)))
  rw [jw_v_n (by omega)]
  refine va_iast (D := (jx_w z).1) (cl := jw_cl) (tys := jw_ty (jx_w z)) hC.x hC.b hC.U.1 h.1.2.1 h.1.2.2.1 h.hs _ 0 hg rfl hin hd (fun H1 locs1 hP hD hS => ?_)
  have e := jw_L_set (w := jx_w z) (ad := ad) (c := ((S.2.2.2 a).1, upd (S.2.2.2 a).2.1 i.toNatClampNeg x, (S.2.2.2 a).2.2)) h.1.ks ok hbig
  rw [hk] at e
  exact k9.2 z hC ad H1 locs1 ls kk u (h.upd (h.1.upd hbig (e ▸ hP) (e ▸ hD) (fun j b e => h.1.2.2.2.2.1 a j b e) (fun e => absurd e (by omega)) (fun e => absurd e (by omega))) hS h.os.t.t.t)
theorem jr_lastore {a : Nat} {i : Int32} {x : Int64} (hk : a % 64 = 53) (hin : vp_in i (so_l S a)) (hd : decode K.1 pc = .ok (.lastore, 1)) (k9 : jg_ T K (pc + 1) lv st (so_sL S a i.toNatClampNeg x)) : jg_ T K pc lv (.long x :: .int i :: .ref a :: st) S := by
  refine ⟨(so_Ext.up S a _).tr k9.1, fun z hC ad H locs ls kk u h => ?_⟩
  have ok : so_ok S a := h.os.t.t.h a rfl
  have hbig := h.1.big ok (by omega) (by omega) (by omega)
  have hg := jw_L_get (w := jx_w z) (ad := ad) ok hbig
  rw [hk] at hg
  show jx_W z H locs kk u (jx_Q z T) (F0 (jx_m z) pc ls (.long x :: .int i :: jw_v (jx_w z) ad (.ref a) :: st.map (jw_v (jx_w z) ad)))
  rw [jw_v_n (by omega)]
  refine va_last (D := (jx_w z).1) (cl := jw_cl) (tys := jw_ty (jx_w z)) hC.x hC.b hC.U.1 h.1.2.1 h.1.2.2.1 h.hs _ 3 hg rfl hin hd (fun H1 locs1 hP hD hS => ?_)
  have e := jw_L_set (w := jx_w z) (ad := ad) (c := ((S.2.2.2 a).1, (S.2.2.2 a).2.1, (S.2.2.2 a).2.2.1, vp_updL (S.2.2.2 a).2.2.2 i.toNatClampNeg x)) h.1.ks ok hbig
  rw [hk] at e
  exact k9.2 z hC ad H1 locs1 ls kk u (h.upd (h.1.upd hbig (e ▸ hP) (e ▸ hD) (fun j b e => h.1.2.2.2.2.1 a j b e) (fun e => absurd e (by omega)) (fun e => absurd e (by omega))) hS h.os.t.t.t)
theorem jm_fitU {ty : FieldType} {f : Nat → Int32} {k : Nat} {x : Int32} (h : ∀ j, fits ty (.int (f j)) = true) (hx : fits ty (.int x) = true) : ∀ j, fits ty (.int (upd f k x j)) = true := fun j => by
  show fits ty (.int (if j = k then x else f j)) = true
  by_cases e : j = k
  · rw [if_pos e]; exact hx
  · rw [if_neg e]; exact h j
theorem jr_bastore {a : Nat} {i x : Int32} (hk : a % 64 = 51) (hbig : 44 ≤ a / 64) (hin : vp_in i (so_l S a)) (hd : decode K.1 pc = .ok (.bastore, 1)) (k9 : jg_ T K (pc + 1) lv st (so_sI S a i.toNatClampNeg x.toInt8.toInt32)) : jg_ T K pc lv (.int x :: .int i :: .ref a :: st) S := by
  refine ⟨(so_Ext.up S a _).tr k9.1, fun z hC ad H locs ls kk u h => ?_⟩
  have ok : so_ok S a := h.os.t.t.h a rfl
  have hg := jw_L_get (w := jx_w z) (ad := ad) ok hbig
  rw [hk] at hg
  show jx_W z H locs kk u (jx_Q z T) (F0 (jx_m z) pc ls (.int x :: .int i :: jw_v (jx_w z) ad (.ref a) :: st.map (jw_v (jx_w z) ad)))
  rw [jw_v_n (by omega)]
  refine va_bast (D := (jx_w z).1) (cl := jw_cl) (tys := jw_ty (jx_w z)) hC.x hC.b hC.U.1 h.1.2.1 h.1.2.2.1 h.hs _ 1 hg rfl hin hd (fun H1 locs1 hP hD hS => ?_)
  have e := jw_L_set (w := jx_w z) (ad := ad) (c := ((S.2.2.2 a).1, upd (S.2.2.2 a).2.1 i.toNatClampNeg x.toInt8.toInt32, (S.2.2.2 a).2.2)) h.1.ks ok hbig
  rw [hk] at e
  rw [vp_nar_byte] at hP hD
  exact k9.2 z hC ad H1 locs1 ls kk u (h.upd (h.1.upd hbig (e ▸ hP) (e ▸ hD) (fun j b e => h.1.2.2.2.2.1 a j b e) (fun e => jm_fitU (fun j => h.1.2.2.2.2.2.1 a j e) (pk_fb x)) (fun e => absurd e (by omega))) hS h.os.t.t.t)
theorem jr_zastore {a : Nat} {i x : Int32} (hk : a % 64 = 52) (hx : x = 0 ∨ x = 1) (hin : vp_in i (so_l S a)) (hd : decode K.1 pc = .ok (.bastore, 1)) (k9 : jg_ T K (pc + 1) lv st (so_sI S a i.toNatClampNeg x)) : jg_ T K pc lv (.int x :: .int i :: .ref a :: st) S := by
  refine ⟨(so_Ext.up S a _).tr k9.1, fun z hC ad H locs ls kk u h => ?_⟩
  have ok : so_ok S a := h.os.t.t.h a rfl
  have hbig := h.1.big ok (by omega) (by omega) (by omega)
  have hg := jw_L_get (w := jx_w z) (ad := ad) ok hbig
  rw [hk] at hg
  show jx_W z H locs kk u (jx_Q z T) (F0 (jx_m z) pc ls (.int x :: .int i :: jw_v (jx_w z) ad (.ref a) :: st.map (jw_v (jx_w z) ad)))
  rw [jw_v_n (by omega)]
  refine va_zast (D := (jx_w z).1) (cl := jw_cl) (tys := jw_ty (jx_w z)) hC.x hC.b hC.U.1 h.1.2.1 h.1.2.2.1 h.hs _ 2 hg rfl hin hd (fun H1 locs1 hP hD hS => ?_)
  have e := jw_L_set (w := jx_w z) (ad := ad) (c := ((S.2.2.2 a).1, upd (S.2.2.2 a).2.1 i.toNatClampNeg x, (S.2.2.2 a).2.2)) h.1.ks ok hbig
  rw [hk] at e
  have en : vp_nar .boolean x = x := by rcases hx with rfl | rfl <;> rfl
  have ef : fits .boolean (.int x) = true := by rcases hx with rfl | rfl <;> rfl
  rw [en] at hP hD
  exact k9.2 z hC ad H1 locs1 ls kk u (h.upd (h.1.upd hbig (e ▸ hP) (e ▸ hD) (fun j b e => h.1.2.2.2.2.1 a j b e) (fun e => absurd e (by omega)) (fun e => jm_fitU (fun j => h.1.2.2.2.2.2.2.1 a j e) ef)) hS h.os.t.t.t)
theorem jr_aaload {a : Nat} {i : Int32} (hk : a % 64 = 54 ∨ a % 64 = 55) (hin : vp_in i (so_l S a)) (hd : decode K.1 pc = .ok (.aaload, 1)) (k9 : jg_ T K (pc + 1) lv (va_rf (so_R S a i.toNatClampNeg) :: st) S) : jg_ T K pc lv (.int i :: .ref a :: st) S := by
  refine ⟨k9.1, fun z hC ad H locs ls kk u h => ?_⟩
  have ok : so_ok S a := h.os.t.h a rfl
  have hg := jw_L_get (w := jx_w z) (ad := ad) ok (h.1.big ok (by omega) (by omega) (by omega))
  show jx_W z H locs kk u (jx_Q z T) (F0 (jx_m z) pc ls (.int i :: jw_v (jx_w z) ad (.ref a) :: st.map (jw_v (jx_w z) ad)))
  rw [jw_v_n (by omega)]
  have hkk := k9.2 z hC ad H locs ls kk u (h.mv (jo_c (jo_rf (fun b e => h.1.2.2.2.2.1 a _ b e)) h.os.t.t))
  have hkk : jx_W z H locs kk u (jx_Q z T) (F0 (jx_m z) (pc + 1) ls (jw_v (jx_w z) ad (va_rf (so_R S a i.toNatClampNeg)) :: st.map (jw_v (jx_w z) ad))) := hkk
  rw [jw_v_rf] at hkk
  rcases hk with e | e
  · rw [e] at hg
    exact va_aldq (D := (jx_w z).1) (cl := jw_cl) (tys := jw_ty (jx_w z)) hC.x hC.b hC.U.1 h.1.2.1 _ 4 hg rfl hin hd hkk
  · rw [e] at hg
    exact va_aldq (D := (jx_w z).1) (cl := jw_cl) (tys := jw_ty (jx_w z)) hC.x hC.b hC.U.1 h.1.2.1 _ 5 hg rfl hin hd hkk
theorem jr_aaloadG {a : Nat} {i : Int32} (hk : a % 64 = 56) (hin : vp_in i (so_l S a)) (hd : decode K.1 pc = .ok (.aaload, 1)) (k9 : jg_ T K (pc + 1) lv (va_rf (so_R S a i.toNatClampNeg) :: st) S) : jg_ T K pc lv (.int i :: .ref a :: st) S := by
  refine ⟨k9.1, fun z hC ad H locs ls kk u h => ?_⟩
  have ok : so_ok S a := h.os.t.h a rfl
  have hg := jw_L_get (w := jx_w z) (ad := ad) ok (h.1.big ok (by omega) (by omega) (by omega))
  rw [hk] at hg
  show jx_W z H locs kk u (jx_Q z T) (F0 (jx_m z) pc ls (.int i :: jw_v (jx_w z) ad (.ref a) :: st.map (jw_v (jx_w z) ad)))
  rw [jw_v_n (by omega)]
  have hkk := k9.2 z hC ad H locs ls kk u (h.mv (jo_c (jo_rf (fun b e => h.1.2.2.2.2.1 a _ b e)) h.os.t.t))
  have hkk : jx_W z H locs kk u (jx_Q z T) (F0 (jx_m z) (pc + 1) ls (jw_v (jx_w z) ad (va_rf (so_R S a i.toNatClampNeg)) :: st.map (jw_v (jx_w z) ad))) := hkk
  rw [jw_v_rf] at hkk
  have hlt : i.toNatClampNeg < so_l S a := Nat.not_le.mp fun q => hin (Or.inr q)
  have hcell : H[ad a]? = some (vp_cell ((jx_w z).2.1 6) (so_l S a, .inr (.inr (.inr (.inr (fun j => jw_cr (jx_w z) ad (so_R S a j))))))) := h.1.2.1 _ _ hg
  exact W.aald (v := va_rf (jw_cr (jx_w z) ad (so_R S a i.toNatClampNeg))) (ty := .array .int) hC.x hC.b hcell ((hC.U.1.2 6 ((jx_w z).2.1 6, .array .int) rfl).1 _ _) rfl (fun q => by cases q) (by show ¬ (i < 0 ∨ (arrV _ _ _).slots.size ≤ _); rw [arrV_size]; exact hin) (by show (arrV _ _ _).slots[_]? = _; rw [arrV_read _ _ hlt]) rfl rfl hd hkk
end JA
