/-! BASE J: constants, statics, strings, switches, copies, exceptions made -/
set_option maxRecDepth 100000
theorem jk_SU {own : String} {idx ci : Nat} {q : vw_C} {y : MethodName} {b : ByteArray} {L n : Nat} {r : Option FieldType} (hq : jw_cl[ci]? = some q) (h1 : Cond.methodLink own idx y ∈ lw_all) (h2 : Cond.sameMethod y.cls y.cls y.name y.desc ∈ lw_all) (h3 : Cond.superclass own y.cls ∈ lw_all) (h4 : Cond.instanceMethod y ∈ lw_all) (h5 : Cond.initialized y.cls ∈ lw_all) (h6 : Cond.code y b L r ∈ lw_all)
    (hd : y.name ≠ "<init>" ∧ (parseMethodDescriptor y.desc).map (fun d => d.parameters.length) = some n) (hL : L ≤ 45) : jk_ own (.invokespecial idx) y (ws_ y b L r) (2, q.1) (n + 1) := by
  intro z T K hC ho d' mc ms Pc Qc XC free hM H locs cells slots g rest As hbl hpc hrc hg hn hsize hstack hW hdg hf hdd
  obtain ⟨bb, As', rfl, hcell⟩ := hrc
  subst ho
  have hg2 : GoodIn lw_all (va_wsSU K.2.2.1 idx y (ws_ y b L r)) := by
    refine lw_app ?_ (lw_meth h6)
    intro w hw
    simp only [List.mem_cons, List.not_mem_nil, or_false] at hw
    rcases hw with e | e | e | e | e
    · rw [e]; exact h1
    · rw [e]; exact h2
    · rw [e]; exact h3
    · rw [e]; exact h4
    · rw [e]; exact h5
  exact vx_runSU (As := As') (b := bb) (hC.U.1.1 _ q hq).2 ⟨hC.x, hC.b, hC.ml, hC.o, hC.t⟩ hM (va_cwSU n hC.t hg2 rfl rfl rfl hd (jk_room hC hL hdd)) ⟨hbl, hcell, hpc⟩ hg (Nat.succ.inj hn) hsize (hstack.trans jk_rev) hW hdg hf
/-- x is named and has code, y is what overrides it in C -/
theorem jk_O {own : String} {idx : Nat} {C owner : String} {x y : MethodName} {b b0 : ByteArray} {L n m0 : Nat} {r r0 : Option FieldType} (h1 : Cond.methodLink own idx x ∈ lw_all) (h2 : Cond.sameMethod x.cls owner x.name x.desc ∈ lw_all) (h7 : Cond.instanceMethod ⟨owner, x.name, x.desc⟩ ∈ lw_all) (h8 : Cond.code ⟨owner, x.name, x.desc⟩ b0 m0 r0 ∈ lw_all) (h3 : Cond.selects C x y ∈ lw_all) (h4 : Cond.instanceMethod y ∈ lw_all) (h5 : Cond.initialized y.cls ∈ lw_all) (h6 : Cond.code y b L r ∈ lw_all)
    (hd : owner ≠ "java/lang/invoke/MethodHandle" ∧ owner ≠ "java/lang/invoke/VarHandle" ∧ (parseMethodDescriptor x.desc).map (fun d => d.parameters.length) = some n) (hL : L ≤ 45) : jk_ own (.invokevirtual idx) y (ws_ y b L r) (2, C) (n + 1) := by
  intro z T K hC ho d' mc ms Pc Qc XC free hM H locs cells slots g rest As hbl hpc hrc hg hn hsize hstack hW hdg hf hdd
  obtain ⟨bb, As', rfl, hcell⟩ := hrc
  subst ho
  have hg2 : GoodIn lw_all (va_wsO K.2.2.1 idx C owner x y (ws_ y b L r)) := by
    refine lw_app ?_ (lw_meth h6)
    intro w hw
    simp only [List.mem_cons, List.not_mem_nil, or_false] at hw
    rcases hw with e | e | e | e | e | e
    · rw [e]; exact h1
    · rw [e]; exact h2
    · rw [e]; exact h7
    · rw [e]; exact h3
    · rw [e]; exact h4
    · rw [e]; exact h5
  exact vx_runU (As := As') (b := bb) ⟨hC.x, hC.b, hC.ml, hC.o, hC.t⟩ hM (va_cwO n hC.t hg2 rfl rfl rfl h8 hd (jk_room hC hL hdd)) ⟨hbl, hcell, hpc⟩ hg (Nat.succ.inj hn) hsize (hstack.trans jk_rev) hW hdg hf
/-- the private method jw_sp speaks of -/
theorem jk_UP {own : String} {idx : Nat} {y : MethodName} {b : ByteArray} {L n : Nat} {r : Option FieldType} (hy : y = ⟨"java/lang/AbstractStringBuilder", "ensureCapacityInternal", "(I)V"⟩) (h1 : Cond.methodLink own idx y ∈ lw_all) (h2 : Cond.sameMethod y.cls y.cls y.name y.desc ∈ lw_all) (h4 : Cond.instanceMethod y ∈ lw_all) (h5 : Cond.initialized y.cls ∈ lw_all) (h6 : Cond.code y b L r ∈ lw_all)
    (hd : y.cls ≠ "java/lang/invoke/MethodHandle" ∧ y.cls ≠ "java/lang/invoke/VarHandle" ∧ (parseMethodDescriptor y.desc).map (fun d => d.parameters.length) = some n) (hL : L ≤ 45) : jk_ own (.invokevirtual idx) y (ws_ y b L r) (2, "java/lang/StringBuilder") (n + 1) := by
  intro z T K hC ho d' mc ms Pc Qc XC free hM H locs cells slots g rest As hbl hpc hrc hg hn hsize hstack hW hdg hf hdd
  obtain ⟨bb, As', rfl, hcell⟩ := hrc
  subst ho
  have hT : ∀ w ∈ jw_sp :: lw_all, w.before (jx_a z) (jx_s z) = true := fun w hw => by
    rcases List.mem_cons.mp hw with e | e
    · rw [e]; exact va_Nw.use rfl hC.U.2.2.2.2.2.2.2.2.2.2.2.2.2.2.2.2
    · exact hC.t w e
  have hg0 : GoodIn lw_all (ws_ y b L r) := lw_meth h6
  have hg2 : GoodIn (jw_sp :: lw_all) (va_wsU K.2.2.1 idx "java/lang/StringBuilder" y.cls y y (ws_ y b L r)) := by
    intro w hw
    rcases List.mem_append.mp hw with hw | hw
    · simp only [List.mem_cons, List.not_mem_nil, or_false] at hw
      rcases hw with e | e | e | e | e
      · rw [e]; exact ⟨List.mem_cons_of_mem _ h1, (lw_self _ h1).2⟩
      · rw [e]; exact ⟨List.mem_cons_of_mem _ h2, (lw_self _ h2).2⟩
      · rw [e, hy]; exact ⟨List.mem_cons_self, Or.inl rfl⟩
      · rw [e]; exact ⟨List.mem_cons_of_mem _ h4, (lw_self _ h4).2⟩
      · rw [e]; exact ⟨List.mem_cons_of_mem _ h5, (lw_self _ h5).2⟩
    · exact ⟨List.mem_cons_of_mem _ (hg0 w hw).1, (hg0 w hw).2⟩
  exact vx_runU (As := As') (b := bb) (Ts := jw_sp :: lw_all) ⟨hC.x, hC.b, hC.ml, hC.o, hT⟩ hM (va_cwU n hT hg2 rfl rfl rfl rfl hd (jk_room hC hL hdd)) ⟨hbl, hcell, hpc⟩ hg (Nat.succ.inj hn) hsize (hstack.trans jk_rev) hW hdg hf
section JI
variable {z : jx_Z} {T : jx_T} {K : jx_K} {pc : Nat} {lv lv' : List (Nat × Value)} {st st' : List Value} {S S1 : so_St}
theorem jm_catS {w : jw_W} {ad : Nat → Nat} (st : List Value) : ((st.map (jw_v w ad)).map fun v => v.category) = st.map fun v => v.category := by
  rw [List.map_map]
  exact List.map_congr_left (fun v _ => jw_v_cat v)
theorem jr_objInit {idx a : Nat} (ha : a % 64 ≠ 63) (h1 : Cond.methodLink K.2.2.1 idx Lib.objectInit ∈ lw_all) (h2 : Cond.instanceMethod Lib.objectInit ∈ lw_all) (h3 : Cond.code Lib.objectInit ⟨#[0xb1]⟩ 1 none ∈ lw_all) (hcat : (st.map fun v => v.category).sum ≤ 8) (hdd : 1 ≤ K.2.2.2.1) (hd : decode K.1 pc = .ok (.invokespecial idx, 3)) (k : jg_ T K (pc + 3) lv st S) : jg_ T K pc lv (.ref a :: st) S := by
  refine ⟨k.1, fun z hC ad H locs ls kk u h => ?_⟩
  show jx_W z H locs kk u (jx_Q z T) (F0 (jx_m z) pc ls (jw_v (jx_w z) ad (.ref a) :: st.map (jw_v (jx_w z) ad)))
  rw [jw_v_n ha]
  refine W.objInit hC.x hC.b hC.o (hC.t _ h1) (hC.t _ h2) (hC.t _ h3) rfl (by rw [hC.ml]; exact h.hl.1) rfl hd ?_ ?_ (k.2 z hC ad H locs ls kk u (h.mv h.os.t))
  · rw [hC.R]; exact hdd
  · rw [hC.R, jm_catS]
    show 2 * 0 + _ + 12 ≤ 64 * K.2.2.2.1
    omega
theorem jr_ldcI {idx : Nat} {v : Int32} (hc : Cond.constant K.2.2.1 idx v ∈ lw_all) (hd : decode K.1 pc = .ok (.ldc idx, 2)) (k : jg_ T K (pc + 2) lv (.int v :: st) S) : jg_ T K pc lv st S :=
  jr_pure (fun h => jo_c jo_i h) (fun _ hC _ _ _ _ _ _ _ kk => lv_ldc hC.x hC.b hC.o (hC.t _ hc) hd kk) k
theorem jr_ldcwI {idx : Nat} {v : Int32} (hc : Cond.constant K.2.2.1 idx v ∈ lw_all) (hd : decode K.1 pc = .ok (.ldc_w idx, 3)) (k : jg_ T K (pc + 3) lv (.int v :: st) S) : jg_ T K pc lv st S :=
  jr_pure (fun h => jo_c jo_i h) (fun _ hC _ _ _ _ _ _ _ kk => lv_ldcw hC.x hC.b hC.o (hC.t _ hc) hd kk) k
/-- the constants are references of every store of a walk -/
theorem jm_okc {w : jw_W} {ad : Nat → Nat} {H : Heap} (h : jw_H w ad S H) {i : Nat} (hi : i < 44) : so_ok S (64 * i + jw_k0 i) := by
  have hk : jw_k0 i < 64 := by rcases jw_k0_cases i with g | g | g <;> omega
  have q1 : (64 * i + jw_k0 i) / 64 = i := by omega
  have q2 : (64 * i + jw_k0 i) % 64 = jw_k0 i := by omega
  have := h.1
  exact ⟨by omega, by rw [q1, q2]; exact (h.2.2.2.1 i hi).1⟩
theorem jm_k26 {i : Nat} (hi : i < 20) : jw_k0 (2 + 2 * i) = 26 := by
  unfold jw_k0
  rw [if_neg (by omega), if_pos (by omega)]
theorem jr_ldcS {idx i : Nat} {tx : String} (hm : (K.2.2.1, idx, tx, i) ∈ jw_lits) (hd : decode K.1 pc = .ok (.ldc idx, 2)) (k : jg_ T K (pc + 2) lv (.ref (64 * (2 + 2 * i) + 26) :: st) S) : jg_ T K pc lv st S := by
  refine ⟨k.1, fun z hC ad H locs ls kk u h => ?_⟩
  have hi : i < 20 := (show ∀ q ∈ jw_lits, q.2.2.2 < 20 by decide +kernel) _ hm
  have ok := jm_okc h.1 (i := 2 + 2 * i) (by omega)
  rw [jm_k26 hi] at ok
  have hk := k.2 z hC ad H locs ls kk u (h.mv (jo_c (jo_r ok) h.os))
  have hk : jx_W z H locs kk u (jx_Q z T) (F0 (jx_m z) (pc + 2) ls (jw_v (jx_w z) ad (.ref (64 * (2 + 2 * i) + 26)) :: st.map (jw_v (jx_w z) ad))) := hk
  rw [jw_v_n (by omega), jm_ad hC h ok (by omega)] at hk
  exact va_ldcS hC.x hC.b hC.o (hC.U.2.2.2.2.2.2.2.2.2.2.2.2.2.1 _ hm) hd hk
theorem jr_ldcM {idx : Nat} (hl : Cond.classLink K.2.2.1 idx "[Ljava/lang/Object;" ∈ lw_all) (hd : decode K.1 pc = .ok (.ldc idx, 2)) (k : jg_ T K (pc + 2) lv (.ref 2751 :: st) S) : jg_ T K pc lv st S := by
  refine ⟨k.1, fun z hC ad H locs ls kk u h => ?_⟩
  have ok : so_ok S 2751 := jm_okc h.1 (i := 42) (by decide)
  have hk := k.2 z hC ad H locs ls kk u (h.mv (jo_c (jo_r ok) h.os))
  have hk : jx_W z H locs kk u (jx_Q z T) (F0 (jx_m z) (pc + 2) ls (.ref (ad 2751) :: st.map (jw_v (jx_w z) ad))) := hk
  rw [jm_ad hC h ok (by decide)] at hk
  exact va_ldcM hC.x hC.b hC.o (hC.t _ hl) hC.U.2.2.2.2.2.2.2.2.2.2.1 hd hk
theorem jr_gsC {idx : Nat} (hl : Cond.fieldLink K.2.2.1 idx "java/lang/String" "COMPACT_STRINGS" "Z" ∈ lw_all) (hd : decode K.1 pc = .ok (.getstatic idx, 3)) (k : jg_ T K (pc + 3) lv (.int 1 :: st) S) : jg_ T K pc lv st S :=
  ⟨k.1, fun z hC ad H locs ls kk u h => va_gets hC.x hC.b hC.U.2.2.2.2.2.1 h.hs hC.o (hC.t _ hl) (fun _ g => g) hd (k.2 z hC ad H locs ls kk u (h.mv (jo_c jo_i h.os)))⟩
theorem jr_gsU {idx : Nat} (hl : Cond.fieldLink K.2.2.1 idx Bundle.tN "UNASSIGNED_STACK" Bundle.steD ∈ lw_all) (hd : decode K.1 pc = .ok (.getstatic idx, 3)) (k : jg_ T K (pc + 3) lv (.ref 63 :: st) S) : jg_ T K pc lv st S :=
  ⟨k.1, fun z hC ad H locs ls kk u h => va_gets hC.x hC.b hC.U.2.2.2.2.2.2.1 h.hs hC.o (hC.t _ hl) (fun _ g => g) hd (k.2 z hC ad H locs ls kk u (h.mv (jo_c (jo_r (jm_okc h.1 (i := 0) (by decide))) h.os)))⟩
theorem jr_gsN {idx : Nat} (hl : Cond.fieldLink K.2.2.1 idx Bundle.tN "SUPPRESSED_SENTINEL" Bundle.listD ∈ lw_all) (hd : decode K.1 pc = .ok (.getstatic idx, 3)) (k : jg_ T K (pc + 3) lv (.ref 127 :: st) S) : jg_ T K pc lv st S :=
  ⟨k.1, fun z hC ad H locs ls kk u h => va_gets hC.x hC.b hC.U.2.2.2.2.2.2.2.1 h.hs hC.o (hC.t _ hl) (fun _ g => g) hd (k.2 z hC ad H locs ls kk u (h.mv (jo_c (jo_r (jm_okc h.1 (i := 1) (by decide))) h.os)))⟩
theorem jr_gsR {idx : Nat} (hd : decode K.1 pc = .ok (.getstatic idx, 3)) (k : jg_ T K pc lv st S) : jg_ T K pc lv st S := k
/-- a String's value and coder, a literal's too -/
theorem jr_getSv {idx a : Nat} (hF : jf_ K.2.2.1 idx [26] 0 true) (hl : Cond.fieldLink K.2.2.1 idx "java/lang/String" "value" "[B" ∈ lw_all) (hk : a % 64 = 26) (hd : decode K.1 pc = .ok (.getfield idx, 3)) (k9 : jg_ T K (pc + 3) lv (va_rf (so_R S a 0) :: st) S) : jg_ T K pc lv (.ref a :: st) S := by
  rcases Nat.lt_or_ge (a / 64) 44 with q | q
  · refine ⟨k9.1, fun z hC ad H locs ls kk u h => ?_⟩
    have ok : so_ok S a := h.os.h a rfl
    obtain ⟨i, hi, ea, -, er⟩ := jm_cs h.1 ok hk q
    have hk9 := k9.2 z hC ad H locs ls kk u (h.mv (jo_c (jo_rf (fun b e => h.1.2.2.2.2.1 a 0 b e)) h.os.t))
    have hk9 : jx_W z H locs kk u (jx_Q z T) (F0 (jx_m z) (pc + 3) ls (jw_v (jx_w z) ad (va_rf (so_R S a 0)) :: st.map (jw_v (jx_w z) ad))) := hk9
    have okb := h.1.2.2.2.2.1 a 0 _ er
    rw [er] at hk9
    have hk9 : jx_W z H locs kk u (jx_Q z T) (F0 (jx_m z) (pc + 3) ls (jw_v (jx_w z) ad (.ref (64 * (3 + 2 * i) + 51)) :: st.map (jw_v (jx_w z) ad))) := hk9
    rw [jw_v_n (by omega), jm_ad hC h okb (by omega)] at hk9
    show jx_W z H locs kk u (jx_Q z T) (F0 (jx_m z) pc ls (jw_v (jx_w z) ad (.ref a) :: st.map (jw_v (jx_w z) ad)))
    rw [jw_v_n (by omega), jm_ad hC h ok q]
    have hO := (hC.U.2.2.2.2.2.2.2.2.2.2.2.2.1 i hi).2.2.1
    rw [← ea] at hO
    exact vk_getf hC.x hC.b hO h.hs hC.o (hC.t _ hl) (fun _ g => g) hd hk9
  · exact jr_getR hF (by rw [hk]; exact List.mem_singleton.mpr rfl) (fun _ => q) hd k9
theorem jr_getSc {idx a : Nat} (hF : jf_ K.2.2.1 idx [26] 1 false) (hl : Cond.fieldLink K.2.2.1 idx "java/lang/String" "coder" "B" ∈ lw_all) (hk : a % 64 = 26) (hd : decode K.1 pc = .ok (.getfield idx, 3)) (k9 : jg_ T K (pc + 3) lv (.int (so_I S a 1) :: st) S) : jg_ T K pc lv (.ref a :: st) S := by
  rcases Nat.lt_or_ge (a / 64) 44 with q | q
  · refine ⟨k9.1, fun z hC ad H locs ls kk u h => ?_⟩
    have ok : so_ok S a := h.os.h a rfl
    obtain ⟨i, hi, ea, e0, -⟩ := jm_cs h.1 ok hk q
    have hk9 := k9.2 z hC ad H locs ls kk u (h.mv (jo_c jo_i h.os.t))
    rw [e0] at hk9
    show jx_W z H locs kk u (jx_Q z T) (F0 (jx_m z) pc ls (jw_v (jx_w z) ad (.ref a) :: st.map (jw_v (jx_w z) ad)))
    rw [jw_v_n (by omega), jm_ad hC h ok q]
    have hO := (hC.U.2.2.2.2.2.2.2.2.2.2.2.2.1 i hi).2.1
    rw [← ea] at hO
    exact vk_getf hC.x hC.b hO h.hs hC.o (hC.t _ hl) (fun _ g => g) hd hk9
  · exact jr_getI hF (by rw [hk]; exact List.mem_singleton.mpr rfl) (fun _ => q) hd k9
/-- a String in the machine's heap, a literal too -/
theorem jm_str (hC : jx_C z T K) {ad : Nat → Nat} {H : Heap} {locs : List Loc} {ls : Array Slot} {k u a : Nat} (h : jg_in z T K.2.1 lv st S ad H locs ls k u) (ok : so_ok S a) (hk : a % 64 = 26) : ∃ cell : Cell, H[ad a]? = some cell ∧ cell.vm.isStatics = false ∧ (jx_s z).vm.findClass "java/lang/String" = some cell.cls := by
  rcases Nat.lt_or_ge (a / 64) 44 with q | q
  · obtain ⟨i, hi, ea, -, -⟩ := jm_cs h.1 ok hk q
    have hO := (hC.U.2.2.2.2.2.2.2.2.2.2.2.2.1 i hi).1
    rw [← ea, ← jm_ad hC h ok q] at hO
    obtain ⟨cell, h1, h2, h3, h4⟩ := hO
    have hlt : ad a < (jx_s z).heap.size := (Array.getElem?_eq_some_iff.mp h1).1
    exact ⟨cell, by rw [h.hs.2.1 _ hlt h4]; exact h1, h2, h3⟩
  · have := jm_recv hC h ok (by omega) (q := (RJ9, TJ9, 4)) (by rw [hk]; rfl) (fun _ => q)
    exact this
theorem jr_instS {idx a : Nat} (hl : Cond.classLink K.2.2.1 idx "java/lang/String" ∈ lw_all) (hk : a % 64 = 26) (hd : decode K.1 pc = .ok (.instanceof idx, 3)) (k : jg_ T K (pc + 3) lv (.int 1 :: st) S) : jg_ T K pc lv (.ref a :: st) S := by
  refine ⟨k.1, fun z hC ad H locs ls kk u h => ?_⟩
  have ok : so_ok S a := h.os.h a rfl
  show jx_W z H locs kk u (jx_Q z T) (F0 (jx_m z) pc ls (jw_v (jx_w z) ad (.ref a) :: st.map (jw_v (jx_w z) ad)))
  rw [jw_v_n (by omega)]
  exact va_instS hC.x hC.b hC.o (hC.t _ hl) (hC.U.1.1 26 (RJ9, TJ9, 4) rfl).2 (jm_str hC h ok hk) hd (k.2 z hC ad H locs ls kk u (h.mv (jo_c jo_i h.os.t)))
theorem jr_castS {idx a : Nat} (hl : Cond.classLink K.2.2.1 idx "java/lang/String" ∈ lw_all) (hk : a % 64 = 26) (hd : decode K.1 pc = .ok (.checkcast idx, 3)) (k : jg_ T K (pc + 3) lv (.ref a :: st) S) : jg_ T K pc lv (.ref a :: st) S := by
  refine ⟨k.1, fun z hC ad H locs ls kk u h => ?_⟩
  have ok : so_ok S a := h.os.h a rfl
  have hkk := k.2 z hC ad H locs ls kk u h
  have hkk : jx_W z H locs kk u (jx_Q z T) (F0 (jx_m z) (pc + 3) ls (jw_v (jx_w z) ad (.ref a) :: st.map (jw_v (jx_w z) ad))) := hkk
  show jx_W z H locs kk u (jx_Q z T) (F0 (jx_m z) pc ls (jw_v (jx_w z) ad (.ref a) :: st.map (jw_v (jx_w z) ad)))
  rw [jw_v_n (by omega)] at hkk ⊢
  exact va_castS hC.x hC.b hC.o (hC.t _ hl) (hC.U.1.1 26 (RJ9, TJ9, 4) rfl).2 (jm_str hC h ok hk) hd hkk
theorem jr_castB {idx a : Nat} (hl : Cond.classLink K.2.2.1 idx "[B" ∈ lw_all) (hk : a % 64 = 51) (hb : 44 ≤ a / 64) (hd : decode K.1 pc = .ok (.checkcast idx, 3)) (k : jg_ T K (pc + 3) lv (.ref a :: st) S) : jg_ T K pc lv (.ref a :: st) S := by
  refine ⟨k.1, fun z hC ad H locs ls kk u h => ?_⟩
  have ok : so_ok S a := h.os.h a rfl
  have hg := jw_L_get (w := jx_w z) (ad := ad) ok hb
  rw [hk] at hg
  have hkk := k.2 z hC ad H locs ls kk u h
  have hkk : jx_W z H locs kk u (jx_Q z T) (F0 (jx_m z) (pc + 3) ls (jw_v (jx_w z) ad (.ref a) :: st.map (jw_v (jx_w z) ad))) := hkk
  show jx_W z H locs kk u (jx_Q z T) (F0 (jx_m z) pc ls (jw_v (jx_w z) ad (.ref a) :: st.map (jw_v (jx_w z) ad)))
  rw [jw_v_n (by omega)] at hkk ⊢
  exact va_castA (D := (jx_w z).1) (cl := jw_cl) hC.x hC.b hC.o (hC.t _ hl) h.1.2.1 _ hg (hC.U.1.2 1 ((jx_w z).2.1 1, .byte) rfl).2 hd hkk
theorem jr_ifnonnull {r : Option Nat} {off : Int} {tgt : Nat} (h63 : ∀ a, r = some a → a % 64 ≠ 63) (hd : decode K.1 pc = .ok (.ifnonnull off, 3)) (ht : (pc : Int) + off = (tgt : Int)) (kt : ∀ a, r = some a → jg_ T K tgt lv st S) (kf : r = none → jg_ T K (pc + 3) lv st S) : jg_ T K pc lv (va_rf r :: st) S := by
  cases r with
  | none => exact ⟨(kf rfl).1, fun z hC ad H locs ls kk u h => lv_ifnonnullN hC.x hC.b hd ((kf rfl).2 z hC ad H locs ls kk u (h.mv h.os.t))⟩
  | some a =>
    refine ⟨(kt a rfl).1, fun z hC ad H locs ls kk u h => ?_⟩
    show jx_W z H locs kk u (jx_Q z T) (F0 (jx_m z) pc ls (jw_v (jx_w z) ad (.ref a) :: st.map (jw_v (jx_w z) ad)))
    rw [jw_v_n (h63 a rfl)]
    exact lv_ifnonnull hC.x hC.b hd ht ((kt a rfl).2 z hC ad H locs ls kk u (h.mv h.os.t))
/-- two references compared, at least one of them of the run -/
theorem jm_inj (hC : jx_C z T K) {ad : Nat → Nat} {H : Heap} {locs : List Loc} {ls : Array Slot} {k u a b : Nat} (h : jg_in z T K.2.1 lv st S ad H locs ls k u) (oka : so_ok S a) (okb : so_ok S b) (ha : 44 ≤ a / 64) (hb : 44 ≤ b / 64 ∨ b % 64 = 26) (e : ad a = ad b) : a = b := by
  have ga := jw_L_get (w := jx_w z) (ad := ad) oka ha
  rcases Nat.lt_or_ge (b / 64) 44 with q | q
  · have hk : b % 64 = 26 := by rcases hb with g | g <;> omega
    obtain ⟨i, hi, eb, -, -⟩ := jm_cs h.1 okb hk q
    have hO := (hC.U.2.2.2.2.2.2.2.2.2.2.2.2.1 i hi).1
    rw [← eb, ← jm_ad hC h okb q] at hO
    obtain ⟨cell, h1, h2, h3, h4⟩ := hO
    exact absurd (e ▸ h.1.2.2.1.2 _ _ ga) h4
  · have gb := jw_L_get (w := jx_w z) (ad := ad) okb q
    have := h.1.2.2.1.1 _ _ _ _ ga gb e
    have e2 : a / 64 = b / 64 := by omega
    have e3 : a % 64 = b % 64 := by rw [← oka.2, ← okb.2, e2]
    omega
theorem jr_acmpne {a b : Nat} {off : Int} {tgt : Nat} (ha : 44 ≤ a / 64) (hk : a % 64 ≠ 63) (hb : 44 ≤ b / 64 ∨ b % 64 = 26) (hkb : b % 64 ≠ 63) (hd : decode K.1 pc = .ok (.if_acmp .ne off, 3)) (ht : (pc : Int) + off = (tgt : Int)) (kt : ¬ a = b → jg_ T K tgt lv st S) (kf : a = b → jg_ T K (pc + 3) lv st S) : jg_ T K pc lv (.ref b :: .ref a :: st) S := by
  refine ⟨?_, fun z hC ad H locs ls kk u h => ?_⟩
  · by_cases c : a = b
    · exact (kf c).1
    · exact (kt c).1
  · show jx_W z H locs kk u (jx_Q z T) (F0 (jx_m z) pc ls (jw_v (jx_w z) ad (.ref b) :: jw_v (jx_w z) ad (.ref a) :: st.map (jw_v (jx_w z) ad)))
    rw [jw_v_n hk, jw_v_n hkb]
    refine lv_acmp_ne (rx := some (ad a)) (ry := some (ad b)) hC.x hC.b hd ht (fun c => (kt (fun e => c (by rw [e]))).2 z hC ad H locs ls kk u (h.mv h.os.t.t)) (fun c => (kf (jm_inj hC h (h.os.t.h a rfl) (h.os.h b rfl) ha hb (Option.some.inj c))).2 z hC ad H locs ls kk u (h.mv h.os.t.t))
/-- the mirror against itself -/
theorem jr_acmpM {off : Int} {tgt : Nat} (hd : decode K.1 pc = .ok (.if_acmp .ne off, 3)) (ht : (pc : Int) + off = (tgt : Int)) (k : jg_ T K (pc + 3) lv st S) : jg_ T K pc lv (.ref 2751 :: .ref 2751 :: st) S :=
  ⟨k.1, fun z hC ad H locs ls kk u h => lv_acmp_ne (rx := some (ad 2751)) (ry := some (ad 2751)) hC.x hC.b hd ht (fun c => absurd rfl c) (fun _ => k.2 z hC ad H locs ls kk u (h.mv h.os.t.t))⟩
theorem jr_getC {idx a : Nat} (hk : a % 64 = 55) (h1 : Cond.methodLink K.2.2.1 idx ⟨"java/lang/Object", "getClass", "()Ljava/lang/Class;"⟩ ∈ lw_all) (h2 : Cond.selects "[Ljava/lang/Object;" ⟨"java/lang/Object", "getClass", "()Ljava/lang/Class;"⟩ ⟨"java/lang/Object", "getClass", "()Ljava/lang/Class;"⟩ ∈ lw_all) (h3 : Cond.instanceMethod ⟨"java/lang/Object", "getClass", "()Ljava/lang/Class;"⟩ ∈ lw_all) (h4 : Cond.native ⟨"java/lang/Object", "getClass", "()Ljava/lang/Class;"⟩ ∈ lw_all) (hcat : (st.map fun v => v.category).sum ≤ 8) (hdd : 1 ≤ K.2.2.2.1) (hd : decode K.1 pc = .ok (.invokevirtual idx, 3)) (k : jg_ T K (pc + 3) lv (.ref 2751 :: st) S) : jg_ T K pc lv (.ref a :: st) S := by
  refine ⟨k.1, fun z hC ad H locs ls kk u h => ?_⟩
  have ok : so_ok S a := h.os.h a rfl
  have okc : so_ok S 2751 := jm_okc h.1 (i := 42) (by decide)
  have hg := jw_L_get (w := jx_w z) (ad := ad) ok (h.1.big ok (by omega) (by omega) (by omega))
  rw [hk] at hg
  have hcell : H[ad a]? = some (vp_cell ((jx_w z).2.1 5) (so_l S a, .inr (.inr (.inr (.inr (fun j => jw_cr (jx_w z) ad (so_R S a j))))))) := h.1.2.1 _ _ hg
  have hkk := k.2 z hC ad H locs ls kk u (h.mv (jo_c (jo_r okc) h.os.t))
  have hkk : jx_W z H locs kk u (jx_Q z T) (F0 (jx_m z) (pc + 3) ls (.ref (ad 2751) :: st.map (jw_v (jx_w z) ad))) := hkk
  rw [jm_ad hC h okc (by decide)] at hkk
  show jx_W z H locs kk u (jx_Q z T) (F0 (jx_m z) pc ls (jw_v (jx_w z) ad (.ref a) :: st.map (jw_v (jx_w z) ad)))
  rw [jw_v_n (by omega)]
  obtain ⟨kA, comp, -, -, -, g4⟩ := (hC.U.1.2 5 ((jx_w z).2.1 5, .object "java/lang/Object") rfl).2
  refine va_getC (C := "[Ljava/lang/Object;") hC.x hC.b (by rw [hC.ml]; exact h.hl.1.symm) hC.o (hC.t _ h1) hC.U.2.2.2.2.2.2.2.2.2.2.2.1.use (hC.t _ h2) (hC.t _ h3) (hC.t _ h4) hC.U.2.2.2.2.2.2.2.2.2.2.1 ⟨_, hcell, rfl, g4⟩ ?_ ?_ hd hkk
  · rw [hC.R]; exact hdd
  · rw [hC.R, jm_catS]
    show _ + 14 ≤ 64 * K.2.2.2.1
    omega
/-- the script -/
theorem jr_slen {L : Nat} (hL : ∀ z, jx_C z T K → (jx_w z).2.2.2.2.2.1 = L) (hd : decode K.1 pc = .ok (.arraylength, 1)) (k : jg_ T K (pc + 1) lv (.int (Int32.ofNat L) :: st) S) : jg_ T K pc lv (.ref 2815 :: st) S := by
  refine ⟨k.1, fun z hC ad H locs ls kk u h => ?_⟩
  have hk := k.2 z hC ad H locs ls kk u (h.mv (jo_c jo_i h.os.t))
  rw [← hL z hC] at hk
  have okc : so_ok S 2815 := jm_okc h.1 (i := 43) (by decide)
  show jx_W z H locs kk u (jx_Q z T) (F0 (jx_m z) pc ls (.ref (ad 2815) :: st.map (jw_v (jx_w z) ad)))
  rw [jm_ad hC h okc (by decide)]
  have hX := hC.U.2.2.2.2.2.2.2.2.2.2.2.2.2.2.1
  have hb : jx_d z 2815 < (jx_s z).heap.size := by obtain ⟨scr, g, -⟩ := hX; exact (Array.getElem?_eq_some_iff.mp g).1
  have hX2 : va_X (jx_d z 2815) (jx_w z).2.2.2.2.2.1 (jx_w z).2.2.2.2.2.2 (jx_s z) H := hX.kept (h.hs.2.1 _ hb hC.U.2.2.2.2.2.2.2.2.2.2.2.2.2.2.2.1)
  obtain ⟨scr, g1, g2, g3, g4, g5⟩ := hX2
  exact W.alen (n := Int32.ofNat (jx_w z).2.2.2.2.2.1) hC.x hC.b g1 g2 (by rw [g4]) rfl rfl hd hk
theorem jr_sld {L : Nat} {xs : Nat → Int32} {i : Int32} (hL : ∀ z, jx_C z T K → (jx_w z).2.2.2.2.2.1 = L ∧ (jx_w z).2.2.2.2.2.2 = xs) (hin : vp_in i L) (hd : decode K.1 pc = .ok (.iaload, 1)) (k : jg_ T K (pc + 1) lv (.int (xs i.toNatClampNeg) :: st) S) : jg_ T K pc lv (.int i :: .ref 2815 :: st) S := by
  refine ⟨k.1, fun z hC ad H locs ls kk u h => ?_⟩
  obtain ⟨e1, e2⟩ := hL z hC
  have hk := k.2 z hC ad H locs ls kk u (h.mv (jo_c jo_i h.os.t.t))
  have okc : so_ok S 2815 := jm_okc h.1 (i := 43) (by decide)
  show jx_W z H locs kk u (jx_Q z T) (F0 (jx_m z) pc ls (.int i :: .ref (ad 2815) :: st.map (jw_v (jx_w z) ad)))
  rw [jm_ad hC h okc (by decide)]
  have hX := hC.U.2.2.2.2.2.2.2.2.2.2.2.2.2.2.1
  have hb : jx_d z 2815 < (jx_s z).heap.size := by obtain ⟨scr, g, -⟩ := hX; exact (Array.getElem?_eq_some_iff.mp g).1
  have hX2 : va_X (jx_d z 2815) (jx_w z).2.2.2.2.2.1 (jx_w z).2.2.2.2.2.2 (jx_s z) H := hX.kept (h.hs.2.1 _ hb hC.U.2.2.2.2.2.2.2.2.2.2.2.2.2.2.2.1)
  obtain ⟨scr, g1, g2, g3, g4, g5⟩ := hX2
  rw [e1] at g4 g5
  rw [e2] at g5
  have hlt : i.toNatClampNeg < L := Nat.not_le.mp fun q => hin (Or.inr q)
  exact W.iald (v := .int (xs i.toNatClampNeg)) hC.x hC.b g1 g2 g3 (by rw [g4]; exact hin) (g5 _ hlt) rfl rfl hd hk
end JI
