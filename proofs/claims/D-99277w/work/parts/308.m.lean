/-! printed: functions and walks -/
set_option maxRecDepth 100000
set_option linter.unusedVariables false
/- X7_day -/
abbrev kX7_day : jx_K := (cX7_day, 1, RX7, 1206, (Option.some Jvm.ClassFile.FieldType.boolean), "day", [])
def fX7_day (a0 : Nat) (S : so_St) : Option (Int32 × so_St) :=
  if (so_I S a0 6) = (500 : Int32) then
  (some ((0 : Int32), S))
  else
  ((fX7_passes a0 S).bind fun S4 =>
  some ((1 : Int32), S4))
set_option maxHeartbeats 4000000 in
set_option maxRecDepth 100000 in
theorem wX7_day {res : Int32} {S' : so_St}  (a0 : Nat)  (S : so_St) (k_a0 : a0 % 64 ∈ [22]) (hf : fX7_day a0 S = some (res, S')) : jx_Sp 1206 yX7_day (ws_ yX7_day cX7_day 1 (Option.some Jvm.ClassFile.FieldType.boolean)) [.ref a0] S (.inl (some (.int res))) S' := by
  refine jx_of (plainFor_of_name (by decide)) (so_le rfl) ?_
  show jg_ (S, S', .inl (some (.int res))) kX7_day 0 [(0, .ref a0)] [] S
  unfold fX7_day at hf
  refine jr_aload_n dX7_day_0 rfl rfl jv_rr ?_
  refine jr_getI fl_X7_49_22 k_a0 (so_n26 rfl) dX7_day_1 ?_
  refine jr_sipush dX7_day_4 sp_500 ?_
  refine jr_icmp_ne (tgt := 12) dX7_day_7 rfl (fun c1 => ?_) (fun c1 => ?_)
  · have hf := so_f c1 hf
    refine jr_aload_n dX7_day_12 rfl rfl jv_rr ?_
    obtain ⟨S4, h2, hf⟩ := so_b hf
    refine jr_callM (st := []) lk_X7_121_22 (wX7_passes a0 S k_a0 h2) k_a0 rfl rfl rfl (so_le rfl) (so_le rfl) dX7_day_13 ?_
    refine jr_iconst dX7_day_16 ic_1 ?_
    obtain ⟨rfl, rfl⟩ := so_e2 hf
    exact jr_iret rfl rfl dX7_day_17
  · have hf := so_t c1 hf
    refine jr_iconst dX7_day_10 ic_0 ?_
    obtain ⟨rfl, rfl⟩ := so_e2 hf
    exact jr_iret rfl rfl dX7_day_11

/- X27_isDone -/
abbrev kX27_isDone : jx_K := (cX27_isDone, 2, RX27, 1207, (Option.some Jvm.ClassFile.FieldType.boolean), "isDone", [])
def fX27_isDone (a0 : Nat) (a1 : Nat) (S : so_St) : Option (Int32 × so_St) :=
  so_b2 (fX7_day a1 S) fun r2 S3 =>
  so_gd (so_01 r2) fun _ =>
  some (r2, S3)
set_option maxHeartbeats 4000000 in
set_option maxRecDepth 100000 in
theorem wX27_isDone {res : Int32} {S' : so_St}  (a0 : Nat) (a1 : Nat)  (S : so_St) (k_a0 : a0 % 64 ∈ [17]) (k_a1 : a1 % 64 ∈ [22]) (hf : fX27_isDone a0 a1 S = some (res, S')) : jx_Sp 1207 yX27_isDone (ws_ yX27_isDone cX27_isDone 2 (Option.some Jvm.ClassFile.FieldType.boolean)) [.ref a0, .ref a1] S (.inl (some (.int res))) S' := by
  refine jx_of (plainFor_of_name (by decide)) (so_le rfl) ?_
  show jg_ (S, S', .inl (some (.int res))) kX27_isDone 0 [(0, .ref a0), (1, .ref a1)] [] S
  unfold fX27_isDone at hf
  refine jr_aload_n dX27_isDone_0 rfl rfl jv_rr ?_
  obtain ⟨r2, S3, h1, hf⟩ := so_b2E hf
  refine jr_callM (st := []) lk_X27_7_22 (wX7_day a1 S k_a1 h1) k_a1 rfl rfl rfl (so_le rfl) (so_le rfl) dX27_isDone_1 ?_
  obtain ⟨g4, hf⟩ := so_gdE hf
  obtain ⟨rfl, rfl⟩ := so_e2 hf
  exact jr_iret rfl (so_01n (so_01E g4)) dX27_isDone_4

/- V:isDone -/
def fV_isDone (a0 a1 : Nat) (S : so_St) : Option (Int32 × so_St) :=
  if a0 % 64 ∈ [14] then fX24_isDone a0 a1 S else
  if a0 % 64 ∈ [15] then fX25_isDone a0 a1 S else
  if a0 % 64 ∈ [16] then fX26_isDone a0 a1 S else
  if a0 % 64 ∈ [17] then fX27_isDone a0 a1 S else
  none
theorem wV_isDone (a0 a1 : Nat) (S : so_St) (h0 : a0 % 64 ∈ [14, 15, 16, 17]) (h1 : a1 % 64 ∈ [22]) {res : Int32} {S' : so_St} (hf : fV_isDone a0 a1 S = some (res, S')) : VP_isDone 1207 a0 a1 S res S' := by
  unfold fV_isDone at hf
  refine ⟨h0, fun hm => ?_, fun hm => ?_, fun hm => ?_, fun hm => ?_⟩
  · have hf := so_t hm hf
    exact ⟨_, (so_le rfl), wX24_isDone a0 a1 S hm h1 hf⟩
  · have hf := so_f (fun c => so_dj hm c rfl) hf
    have hf := so_t hm hf
    exact ⟨_, (so_le rfl), wX25_isDone a0 a1 S hm h1 hf⟩
  · have hf := so_f (fun c => so_dj hm c rfl) hf
    have hf := so_f (fun c => so_dj hm c rfl) hf
    have hf := so_t hm hf
    exact ⟨_, (so_le rfl), wX26_isDone a0 a1 S hm h1 hf⟩
  · have hf := so_f (fun c => so_dj hm c rfl) hf
    have hf := so_f (fun c => so_dj hm c rfl) hf
    have hf := so_f (fun c => so_dj hm c rfl) hf
    have hf := so_t hm hf
    exact ⟨_, (so_le rfl), wX27_isDone a0 a1 S hm h1 hf⟩
theorem vs_isDone_X23_13 {d : Nat} {a0 a1 : Nat} {S : so_St} {res : Int32} {S' : so_St} (h : VP_isDone d a0 a1 S res S') : jx_VS RX23 (.invokevirtual 13) 2 (d + 1) a0 [.ref a1] S (.inl (some (.int res))) S' := by
  obtain ⟨h0, h1, h2, h3, h4⟩ := h
  have h00 := h0
  simp only [List.mem_cons, List.not_mem_nil, or_false] at h00
  rcases h00 with e | e | e | e
  · obtain ⟨d', hd, hS⟩ := h1 (by rw [e]; decide)
    exact ⟨by omega, by omega, d', _, _, (by rw [e]; exact jk_A (C := RX24) (owner := "TunedHouses$Act") q1511 q1510 q1512 q1611 q1612 q141 q1613 (by decide +kernel) (so_le rfl)), hS, by omega⟩
  · obtain ⟨d', hd, hS⟩ := h2 (by rw [e]; decide)
    exact ⟨by omega, by omega, d', _, _, (by rw [e]; exact jk_A (C := RX25) (owner := "TunedHouses$Act") q1511 q1510 q1512 q1619 q1620 q142 q1621 (by decide +kernel) (so_le rfl)), hS, by omega⟩
  · obtain ⟨d', hd, hS⟩ := h3 (by rw [e]; decide)
    exact ⟨by omega, by omega, d', _, _, (by rw [e]; exact jk_A (C := RX26) (owner := "TunedHouses$Act") q1511 q1510 q1512 q1513 q1514 q143 q1515 (by decide +kernel) (so_le rfl)), hS, by omega⟩
  · obtain ⟨d', hd, hS⟩ := h4 (by rw [e]; decide)
    exact ⟨by omega, by omega, d', _, _, (by rw [e]; exact jk_A (C := RX27) (owner := "TunedHouses$Act") q1511 q1510 q1512 q1520 q1521 q144 q1522 (by decide +kernel) (so_le rfl)), hS, by omega⟩


/- X23_goes -/
abbrev kX23_goes : jx_K := (cX23_goes, 3, RX23, 1208, (Option.none : Option Jvm.ClassFile.FieldType), "goes", [])
def fX23_goes (a0 : Nat) (a1 : Nat) (S : so_St) : Option so_St :=
  so_b2 (fX22_may a1 S) fun r2 S3 =>
  if r2 = (0 : Int32) then
  (some S3)
  else
  (so_b2 (fV_isDone a0 a1 S3) fun r6 S7 =>
  so_j (κ := Int32 → Option so_St) (ρ := Option so_St) (fun (v8 : Int32) =>
  so_let (so_sI S7 a1 8 ((so_I S7 a1 8) + v8)) fun S10 =>
  so_j (κ := Int32 → Option so_St) (ρ := Option so_St) (fun (v11 : Int32) =>
  so_let (so_sI S10 a1 9 ((so_I S10 a1 9) + v11)) fun S13 =>
  some S13)
  (fun J12 =>
  if r6 = (0 : Int32) then
  (J12 (1 : Int32))
  else
  (J12 (0 : Int32))))
  (fun J9 =>
  if r6 = (0 : Int32) then
  (J9 (0 : Int32))
  else
  (J9 (1 : Int32))))
set_option maxHeartbeats 4000000 in
set_option maxRecDepth 100000 in
theorem wX23_goes {S' : so_St}  (a0 : Nat) (a1 : Nat)  (S : so_St) (k_a0 : a0 % 64 ∈ [14, 15, 16, 17]) (k_a1 : a1 % 64 ∈ [22]) (hf : fX23_goes a0 a1 S = some S') : jx_Sp 1208 yX23_goes (ws_ yX23_goes cX23_goes 3 (Option.none : Option Jvm.ClassFile.FieldType)) [.ref a0, .ref a1] S (.inl none) S' := by
  refine jx_of (plainFor_of_name (by decide)) (so_le rfl) ?_
  show jg_ (S, S', .inl none) kX23_goes 0 [(0, .ref a0), (1, .ref a1)] [] S
  unfold fX23_goes at hf
  refine jr_aload_n dX23_goes_0 rfl rfl jv_rr ?_
  obtain ⟨r2, S3, h1, hf⟩ := so_b2E hf
  refine jr_call (st := []) lk_X23_7 (wX22_may a1 S k_a1 h1) jk_r0 rfl rfl (so_le rfl) (so_le rfl) dX23_goes_1 ?_
  refine jr_if_ne (tgt := 8) dX23_goes_4 rfl (fun c4 => ?_) (fun c4 => ?_)
  · have hf := so_f c4 hf
    refine jr_aload_n dX23_goes_8 rfl rfl jv_rr ?_
    refine jr_aload_n dX23_goes_9 rfl rfl jv_rr ?_
    obtain ⟨r6, S7, h5, hf⟩ := so_b2E hf
    refine jr_callD (st := []) (vs_isDone_X23_13 (wV_isDone a0 a1 S3 k_a0 k_a1 h5)) (so_le rfl) rfl rfl (so_le rfl) dX23_goes_10 ?_
    refine jr_istore_n (lv' := [(0, .ref a0), (1, .ref a1), (2, .int r6)]) dX23_goes_13 rfl (so_le rfl) rfl ?_
    refine jr_aload_n dX23_goes_14 rfl rfl jv_rr ?_
    refine jr_dup dX23_goes_15 rfl ?_
    refine jr_getI fl_X23_16_22 k_a1 (so_n26 rfl) dX23_goes_16 ?_
    refine jr_iload_n dX23_goes_19 rfl rfl ?_
    refine so_jE hf (fun J => ∀ (v8 : Int32), J v8 = some S' → jg_ (S, S', .inl none) kX23_goes 28 [(1, .ref a1), (2, .int r6)] [.int v8, .int (so_I S7 a1 8), .ref a1] S7) (fun v8 hf => ?_) (fun J9 hJ9 hf => ?_)
    · refine jr_iadd dX23_goes_28 ?_
      refine jr_putI fp_X23_16_22 k_a1 (so_n26 rfl) (fun h => by cases h) rfl rfl dX23_goes_29 ?_
      refine so_let_e hf (fun S10 hf => ?_)
      refine jr_aload_n dX23_goes_32 rfl rfl jv_rr ?_
      refine jr_dup dX23_goes_33 rfl ?_
      refine jr_getI fl_X23_22_22 k_a1 (so_n26 rfl) dX23_goes_34 ?_
      refine jr_iload_n dX23_goes_37 rfl rfl ?_
      refine so_jE hf (fun J => ∀ (v11 : Int32), J v11 = some S' → jg_ (S, S', .inl none) kX23_goes 46 [] [.int v11, .int (so_I S10 a1 9), .ref a1] S10) (fun v11 hf => ?_) (fun J12 hJ12 hf => ?_)
      · refine jr_iadd dX23_goes_46 ?_
        refine jr_putI fp_X23_22_22 k_a1 (so_n26 rfl) (fun h => by cases h) rfl rfl dX23_goes_47 ?_
        refine so_let_e hf (fun S13 hf => ?_)
        obtain rfl := so_e1 hf
        exact jr_vret rfl dX23_goes_50
      · refine jr_if_eq (tgt := 45) dX23_goes_38 rfl (fun c14 => ?_) (fun c14 => ?_)
        · have hf := so_t c14 hf
          refine jr_iconst dX23_goes_45 ic_1 ?_
          refine jr_sub [] rfl ?_
          exact hJ12 (1 : Int32) hf
        · have hf := so_f c14 hf
          refine jr_iconst dX23_goes_41 ic_0 ?_
          refine jr_goto (tgt := 46) dX23_goes_42 rfl ?_
          refine jr_sub [] rfl ?_
          exact hJ12 (0 : Int32) hf
    · refine jr_if_eq (tgt := 27) dX23_goes_20 rfl (fun c15 => ?_) (fun c15 => ?_)
      · have hf := so_t c15 hf
        refine jr_iconst dX23_goes_27 ic_0 ?_
        refine jr_sub [1, 2] rfl ?_
        exact hJ9 (0 : Int32) hf
      · have hf := so_f c15 hf
        refine jr_iconst dX23_goes_23 ic_1 ?_
        refine jr_goto (tgt := 28) dX23_goes_24 rfl ?_
        refine jr_sub [1, 2] rfl ?_
        exact hJ9 (1 : Int32) hf
  · have hf := so_t c4 hf
    obtain rfl := so_e1 hf
    exact jr_vret rfl dX23_goes_7

/- SITE:goes -/
theorem vs_goes_X1_216 {d : Nat} {a0 a1 : Nat} {S S' : so_St} (h : VP_goes d a0 a1 S S') : jx_VS RX1 (.invokevirtual 216) 2 (d + 1) a0 [.ref a1] S (.inl none) S' := by
  obtain ⟨h0, h1, h2⟩ := h
  have h00 := h0
  simp only [List.mem_cons, List.not_mem_nil, or_false] at h00
  rcases h00 with e | e | e | e | e
  · obtain ⟨d', hd, hS⟩ := h1 (by rw [e]; decide)
    exact ⟨by omega, by omega, d', _, _, (by rw [e]; exact jk_A (C := RX24) (owner := "TunedHouses$Step") q1493 q1492 q1494 q1628 q1506 q140 q1507 (by decide +kernel) (so_le rfl)), hS, by omega⟩
  · obtain ⟨d', hd, hS⟩ := h1 (by rw [e]; decide)
    exact ⟨by omega, by omega, d', _, _, (by rw [e]; exact jk_A (C := RX25) (owner := "TunedHouses$Step") q1493 q1492 q1494 q1629 q1506 q140 q1507 (by decide +kernel) (so_le rfl)), hS, by omega⟩
  · obtain ⟨d', hd, hS⟩ := h1 (by rw [e]; decide)
    exact ⟨by omega, by omega, d', _, _, (by rw [e]; exact jk_A (C := RX26) (owner := "TunedHouses$Step") q1493 q1492 q1494 q1626 q1506 q140 q1507 (by decide +kernel) (so_le rfl)), hS, by omega⟩
  · obtain ⟨d', hd, hS⟩ := h1 (by rw [e]; decide)
    exact ⟨by omega, by omega, d', _, _, (by rw [e]; exact jk_A (C := RX27) (owner := "TunedHouses$Step") q1493 q1492 q1494 q1627 q1506 q140 q1507 (by decide +kernel) (so_le rfl)), hS, by omega⟩
  · obtain ⟨d', hd, hS⟩ := h2 (by rw [e]; decide)
    exact ⟨by omega, by omega, d', _, _, (by rw [e]; exact jk_A (C := RX28) (owner := "TunedHouses$Step") q1493 q1492 q1494 q1495 q1496 q145 q1497 (by decide +kernel) (so_le rfl)), hS, by omega⟩
theorem vs_goes_X28_40 {d : Nat} {a0 a1 : Nat} {S S' : so_St} (h : VP_goes d a0 a1 S S') : jx_VS RX28 (.invokevirtual 40) 2 (d + 1) a0 [.ref a1] S (.inl none) S' := by
  obtain ⟨h0, h1, h2⟩ := h
  have h00 := h0
  simp only [List.mem_cons, List.not_mem_nil, or_false] at h00
  rcases h00 with e | e | e | e | e
  · obtain ⟨d', hd, hS⟩ := h1 (by rw [e]; decide)
    exact ⟨by omega, by omega, d', _, _, (by rw [e]; exact jk_A (C := RX24) (owner := "TunedHouses$Step") q1493 q1505 q1494 q1628 q1506 q140 q1507 (by decide +kernel) (so_le rfl)), hS, by omega⟩
  · obtain ⟨d', hd, hS⟩ := h1 (by rw [e]; decide)
    exact ⟨by omega, by omega, d', _, _, (by rw [e]; exact jk_A (C := RX25) (owner := "TunedHouses$Step") q1493 q1505 q1494 q1629 q1506 q140 q1507 (by decide +kernel) (so_le rfl)), hS, by omega⟩
  · obtain ⟨d', hd, hS⟩ := h1 (by rw [e]; decide)
    exact ⟨by omega, by omega, d', _, _, (by rw [e]; exact jk_A (C := RX26) (owner := "TunedHouses$Step") q1493 q1505 q1494 q1626 q1506 q140 q1507 (by decide +kernel) (so_le rfl)), hS, by omega⟩
  · obtain ⟨d', hd, hS⟩ := h1 (by rw [e]; decide)
    exact ⟨by omega, by omega, d', _, _, (by rw [e]; exact jk_A (C := RX27) (owner := "TunedHouses$Step") q1493 q1505 q1494 q1627 q1506 q140 q1507 (by decide +kernel) (so_le rfl)), hS, by omega⟩
  · obtain ⟨d', hd, hS⟩ := h2 (by rw [e]; decide)
    exact ⟨by omega, by omega, d', _, _, (by rw [e]; exact jk_A (C := RX28) (owner := "TunedHouses$Step") q1493 q1505 q1494 q1495 q1496 q145 q1497 (by decide +kernel) (so_le rfl)), hS, by omega⟩


/- X28_goes -/
abbrev kX28_goes (d0 : Nat) : jx_K := (cX28_goes, 4, RX28, d0 + 3, (Option.none : Option Jvm.ClassFile.FieldType), "goes", [])
def LX28_goes_30 (rec : Nat → Nat → so_St → Option so_St) (f0 : Nat) (f1 : Nat) (f2 : Int32) (k62 : so_St → Option so_St) : Nat → Int32 → so_St → Option so_St
  | 0, _, _ => none
  | n + 1, v9, S10 =>
    (so_rk (so_R S10 f0 1) [24]).bind fun p11 =>
    (fJ2_size p11 S10).bind fun r14 =>
    if r14 ≤ v9 then
    (k62 S10)
    else
    ((so_rk (so_R S10 f0 1) [24]).bind fun p16 =>
    (fJ2_get p16 v9 S10).bind fun r19 =>
    (so_rk r19 [14, 15, 16, 17, 18]).bind fun p20 =>
    (rec p20 f1 S10).bind fun S24 =>
    LX28_goes_30 rec f0 f1 f2 k62 n (v9 + (1 : Int32)) S24)
set_option maxHeartbeats 4000000 in
set_option maxRecDepth 100000 in
theorem wX28_goes_30 {d0 : Nat} {S' : so_St} {S0 : so_St}  {rec : Nat → Nat → so_St → Option so_St} (hrec : ∀ (a0 a1 : Nat) (S : so_St), a0 % 64 ∈ [14, 15, 16, 17, 18] → a1 % 64 ∈ [22] → ∀ {S' : so_St}, rec a0 a1 S = some S' → VP_goes d0 a0 a1 S S') (f0 : Nat) (f1 : Nat) (f2 : Int32)   (k_f0 : f0 % 64 ∈ [18]) (k_f1 : f1 % 64 ∈ [22]) (k62 : so_St → Option so_St) (h62 : ∀ (S25 : so_St), k62 S25 = some S' → jg_ (S0, S', .inl none) (kX28_goes d0) 62 [(0, .ref f0), (1, .ref f1), (2, .int f2)] [] S25) : ∀ (n : Nat) (v9 : Int32) (S10 : so_St), LX28_goes_30 rec f0 f1 f2 k62 n v9 S10 = some S' → jg_ (S0, S', .inl none) (kX28_goes d0) 30 [(0, .ref f0), (1, .ref f1), (2, .int f2), (3, .int v9)] [] S10 := by
  intro n
  induction n with
  | zero =>
    intro v9 S10 hf
    exact so_no hf
  | succ n ih =>
    intro v9 S10 hf
    rw [LX28_goes_30] at hf
    refine jr_iload_n dX28_goes_30 rfl rfl ?_
    refine jr_aload_n dX28_goes_31 rfl rfl jv_rr ?_
    refine jr_getR fl_X28_14_18 k_f0 (so_n26 rfl) dX28_goes_32 ?_
    obtain ⟨p11, h12, hf⟩ := so_b hf
    obtain ⟨h12, k_p11⟩ := so_rk_s h12
    refine jr_rf h12 ?_
    obtain ⟨r14, h13, hf⟩ := so_b hf
    refine jr_callM (st := [.int v9]) lk_X28_32_24 (wJ2_size p11 S10 k_p11 h13) k_p11 rfl rfl rfl (so_le rfl) (show 0 + 1 ≤ d0 + 3 by omega) dX28_goes_35 ?_
    refine jr_icmp_ge (tgt := 62) dX28_goes_38 rfl (fun c15 => ?_) (fun c15 => ?_)
    · have hf := so_t c15 hf
      refine jr_sub [0, 1, 2] rfl ?_
      exact h62 S10 hf
    · have hf := so_f c15 hf
      refine jr_aload_n dX28_goes_41 rfl rfl jv_rr ?_
      refine jr_getR fl_X28_14_18 k_f0 (so_n26 rfl) dX28_goes_42 ?_
      obtain ⟨p16, h17, hf⟩ := so_b hf
      obtain ⟨h17, k_p16⟩ := so_rk_s h17
      refine jr_rf h17 ?_
      refine jr_iload_n dX28_goes_45 rfl rfl ?_
      obtain ⟨r19, h18, hf⟩ := so_b hf
      refine jr_callM (st := []) lk_X28_36_24 (wJ2_get p16 v9 S10 k_p16 h18) k_p16 rfl rfl rfl (so_le rfl) (show 2 + 1 ≤ d0 + 3 by omega) dX28_goes_46 ?_
      obtain ⟨p20, h21, hf⟩ := so_b hf
      obtain ⟨h21, k_p20⟩ := so_rk_s h21
      refine jr_rf h21 ?_
      refine jr_cast ca_X28_4_14_15_16_17_18 k_p20 (so_n26' rfl) dX28_goes_49 ?_
      refine jr_aload_n dX28_goes_52 rfl rfl jv_rr ?_
      obtain ⟨S24, h22, hf⟩ := so_b hf
      refine jr_callD (st := []) (vs_goes_X28_40 (hrec p20 f1 S10 k_p20 k_f1 h22)) (show d0 + 1 ≤ d0 + 3 by omega) rfl rfl (so_le rfl) dX28_goes_53 ?_
      refine jr_iinc (v := v9 + (1 : Int32)) (lv' := [(0, .ref f0), (1, .ref f1), (2, .int f2), (3, .int (v9 + (1 : Int32)))]) dX28_goes_56 rfl rfl (so_le rfl) rfl ?_
      refine jr_goto (tgt := 30) dX28_goes_59 rfl ?_
      exact ih (v9 + (1 : Int32)) S24 hf
def LX28_goes_10 (rec : Nat → Nat → so_St → Option so_St) (f0 : Nat) (f1 : Nat) : Nat → Int32 → so_St → Option so_St
  | 0, _, _ => none
  | n + 1, v5, S6 =>
    if (so_I S6 f0 0) ≤ v5 then
    (some S6)
    else
    (if (200 : Int32) ≤ (so_I S6 f1 7) then
    (some S6)
    else
    (LX28_goes_30 rec f0 f1 v5 (fun (S26 : so_St) =>
    LX28_goes_10 rec f0 f1 n (v5 + (1 : Int32)) S26) so_N (0 : Int32) S6))
set_option maxHeartbeats 4000000 in
set_option maxRecDepth 100000 in
theorem wX28_goes_10 {d0 : Nat} {S' : so_St} {S0 : so_St}  {rec : Nat → Nat → so_St → Option so_St} (hrec : ∀ (a0 a1 : Nat) (S : so_St), a0 % 64 ∈ [14, 15, 16, 17, 18] → a1 % 64 ∈ [22] → ∀ {S' : so_St}, rec a0 a1 S = some S' → VP_goes d0 a0 a1 S S') (f0 : Nat) (f1 : Nat)   (k_f0 : f0 % 64 ∈ [18]) (k_f1 : f1 % 64 ∈ [22]) : ∀ (n : Nat) (v5 : Int32) (S6 : so_St), LX28_goes_10 rec f0 f1 n v5 S6 = some S' → jg_ (S0, S', .inl none) (kX28_goes d0) 10 [(0, .ref f0), (1, .ref f1), (2, .int v5)] [] S6 := by
  intro n
  induction n with
  | zero =>
    intro v5 S6 hf
    exact so_no hf
  | succ n ih =>
    intro v5 S6 hf
    rw [LX28_goes_10] at hf
    refine jr_iload_n dX28_goes_10 rfl rfl ?_
    refine jr_aload_n dX28_goes_11 rfl rfl jv_rr ?_
    refine jr_getI fl_X28_20_18 k_f0 (so_n26 rfl) dX28_goes_12 ?_
    refine jr_icmp_ge (tgt := 68) dX28_goes_15 rfl (fun c7 => ?_) (fun c7 => ?_)
    · have hf := so_t c7 hf
      obtain rfl := so_e1 hf
      exact jr_vret rfl dX28_goes_68
    · have hf := so_f c7 hf
      refine jr_aload_n dX28_goes_18 rfl rfl jv_rr ?_
      refine jr_getI fl_X28_28_22 k_f1 (so_n26 rfl) dX28_goes_19 ?_
      refine jr_sipush dX28_goes_22 sp_200 ?_
      refine jr_icmp_ge (tgt := 68) dX28_goes_25 rfl (fun c8 => ?_) (fun c8 => ?_)
      · have hf := so_t c8 hf
        obtain rfl := so_e1 hf
        exact jr_vret rfl dX28_goes_68
      · have hf := so_f c8 hf
        refine jr_iconst dX28_goes_28 ic_0 ?_
        refine jr_istore_n (lv' := [(0, .ref f0), (1, .ref f1), (2, .int v5), (3, .int (0 : Int32))]) dX28_goes_29 rfl (so_le rfl) rfl ?_
        refine wX28_goes_30 hrec f0 f1 v5 k_f0 k_f1 _ (fun S26 hf => ?_) so_N (0 : Int32) S6 hf
        refine jr_iinc (v := v5 + (1 : Int32)) (lv' := [(0, .ref f0), (1, .ref f1), (2, .int (v5 + (1 : Int32)))]) dX28_goes_62 rfl rfl (so_le rfl) rfl ?_
        refine jr_goto (tgt := 10) dX28_goes_65 rfl ?_
        exact ih (v5 + (1 : Int32)) S26 hf
def fX28_goes (rec : Nat → Nat → so_St → Option so_St) (a0 : Nat) (a1 : Nat) (S : so_St) : Option so_St :=
  so_b2 (fX22_may a1 S) fun r2 S3 =>
  if r2 = (0 : Int32) then
  (some S3)
  else
  (LX28_goes_10 rec a0 a1 so_N (0 : Int32) S3)
set_option maxHeartbeats 4000000 in
set_option maxRecDepth 100000 in
theorem wX28_goes {d0 : Nat} {S' : so_St} {rec : Nat → Nat → so_St → Option so_St} (hrec : ∀ (a0 a1 : Nat) (S : so_St), a0 % 64 ∈ [14, 15, 16, 17, 18] → a1 % 64 ∈ [22] → ∀ {S' : so_St}, rec a0 a1 S = some S' → VP_goes d0 a0 a1 S S') (a0 : Nat) (a1 : Nat)  (S : so_St) (k_a0 : a0 % 64 ∈ [18]) (k_a1 : a1 % 64 ∈ [22]) (hf : fX28_goes rec a0 a1 S = some S') : jx_Sp (d0 + 3) yX28_goes (ws_ yX28_goes cX28_goes 4 (Option.none : Option Jvm.ClassFile.FieldType)) [.ref a0, .ref a1] S (.inl none) S' := by
  refine jx_of (plainFor_of_name (by decide)) (so_le rfl) ?_
  show jg_ (S, S', .inl none) (kX28_goes d0) 0 [(0, .ref a0), (1, .ref a1)] [] S
  unfold fX28_goes at hf
  refine jr_aload_n dX28_goes_0 rfl rfl jv_rr ?_
  obtain ⟨r2, S3, h1, hf⟩ := so_b2E hf
  refine jr_call (st := []) lk_X28_24 (wX22_may a1 S k_a1 h1) jk_r0 rfl rfl (so_le rfl) (show 0 + 1 ≤ d0 + 3 by omega) dX28_goes_1 ?_
  refine jr_if_ne (tgt := 8) dX28_goes_4 rfl (fun c4 => ?_) (fun c4 => ?_)
  · have hf := so_f c4 hf
    refine jr_iconst dX28_goes_8 ic_0 ?_
    refine jr_istore_n (lv' := [(0, .ref a0), (1, .ref a1), (2, .int (0 : Int32))]) dX28_goes_9 rfl (so_le rfl) rfl ?_
    refine wX28_goes_10 hrec a0 a1 k_a0 k_a1 so_N (0 : Int32) S3 hf
  · have hf := so_t c4 hf
    obtain rfl := so_e1 hf
    exact jr_vret rfl dX28_goes_7

/- V:goes -/
def fcV_goes : Nat → Nat → Nat → so_St → Option so_St
  | 0 => fun _ _ _ => none
  | n + 1 => fun a0 a1 S =>
  if a0 % 64 ∈ [14, 15, 16, 17] then fX23_goes a0 a1 S else
  if a0 % 64 ∈ [18] then fX28_goes (fcV_goes n) a0 a1 S else
  none
theorem wcV_goes : ∀ (n : Nat) (a0 a1 : Nat) (S : so_St), a0 % 64 ∈ [14, 15, 16, 17, 18] → a1 % 64 ∈ [22] → ∀ {S' : so_St}, fcV_goes n a0 a1 S = some S' → VP_goes (1209 * n) a0 a1 S S' := by
  intro n
  induction n with
  | zero =>
    intro a0 a1 S h0 h1 S9 hf
    exact so_no hf
  | succ n ih =>
    intro a0 a1 S h0 h1 S9 hf
    rw [fcV_goes] at hf
    refine ⟨h0, fun hm => ?_, fun hm => ?_⟩
    · have hf := so_t hm hf
      exact ⟨_, (show 1208 ≤ 1209 * (n + 1) by omega), wX23_goes a0 a1 S hm h1 hf⟩
    · have hf := so_f (fun c => so_dj hm c rfl) hf
      have hf := so_t hm hf
      exact ⟨_, (show 1209 * n + 3 ≤ 1209 * (n + 1) by omega), wX28_goes ih a0 a1 S hm h1 hf⟩


/- X1_work -/
abbrev kX1_work : jx_K := (cX1_work, 5, RX1, 14509, (Option.some Jvm.ClassFile.FieldType.int), "work", tableOf [(28, 45, 179, 165), (52, 172, 179, 165), (28, 45, 193, 0), (52, 172, 193, 0), (179, 186, 193, 0), (193, 195, 193, 0)])
def LX1_work_124 (f0 : Nat) (f2 : Nat) (k153 : so_St → Option ((Int32 ⊕ Nat) × so_St)) : Nat → Int32 → so_St → Option ((Int32 ⊕ Nat) × so_St)
  | 0, _, _ => none
  | n + 1, v46, S47 =>
    (fJ2_size f2 S47).bind fun r49 =>
    if r49 ≤ v46 then
    (k153 S47)
    else
    ((fJ2_get f2 v46 S47).bind fun r52 =>
    (so_rk r52 [14, 15, 16, 17, 18]).bind fun p53 =>
    (so_rk (so_R S47 f0 5) [22]).bind fun p55 =>
    (fcV_goes 12 p53 p55 S47).bind fun S59 =>
    LX1_work_124 f0 f2 k153 n (v46 + (1 : Int32)) S59)
set_option maxHeartbeats 4000000 in
set_option maxRecDepth 100000 in
theorem wX1_work_124 {res : Int32 ⊕ Nat} {S' : so_St} {S0 : so_St}   (f0 : Nat) (f2 : Nat)   (k_f0 : f0 % 64 ∈ [0]) (k_f2 : f2 % 64 ∈ [24]) (k153 : so_St → Option ((Int32 ⊕ Nat) × so_St)) (h153 : ∀ (S60 : so_St), k153 S60 = some (res, S') → jg_ (S0, S', so_oi res) kX1_work 153 [(0, .ref f0)] [] S60) : ∀ (n : Nat) (v46 : Int32) (S47 : so_St), LX1_work_124 f0 f2 k153 n v46 S47 = some (res, S') → jg_ (S0, S', so_oi res) kX1_work 124 [(0, .ref f0), (2, .ref f2), (3, .int v46)] [] S47 := by
  intro n
  induction n with
  | zero =>
    intro v46 S47 hf
    exact so_no hf
  | succ n ih =>
    intro v46 S47 hf
    rw [LX1_work_124] at hf
    refine jr_iload_n dX1_work_124 rfl rfl ?_
    refine jr_aload_n dX1_work_125 rfl rfl jv_rr ?_
    obtain ⟨r49, h48, hf⟩ := so_b hf
    refine jr_callM (st := [.int v46]) lk_X1_116_24 (wJ2_size f2 S47 k_f2 h48) k_f2 rfl rfl rfl (so_le rfl) (so_le rfl) dX1_work_126 ?_
    refine jr_icmp_ge (tgt := 153) dX1_work_129 rfl (fun c50 => ?_) (fun c50 => ?_)
    · have hf := so_t c50 hf
      refine jr_sub [0] rfl ?_
      exact h153 S47 hf
    · have hf := so_f c50 hf
      refine jr_aload_n dX1_work_132 rfl rfl jv_rr ?_
      refine jr_iload_n dX1_work_133 rfl rfl ?_
      obtain ⟨r52, h51, hf⟩ := so_b hf
      refine jr_callM (st := []) lk_X1_122_24 (wJ2_get f2 v46 S47 k_f2 h51) k_f2 rfl rfl rfl (so_le rfl) (so_le rfl) dX1_work_134 ?_
      obtain ⟨p53, h54, hf⟩ := so_b hf
      obtain ⟨h54, k_p53⟩ := so_rk_s h54
      refine jr_rf h54 ?_
      refine jr_cast ca_X1_214_14_15_16_17_18 k_p53 (so_n26' rfl) dX1_work_137 ?_
      refine jr_aload_n dX1_work_140 rfl rfl jv_rr ?_
      refine jr_getR fl_X1_49_0 k_f0 (so_n26 rfl) dX1_work_141 ?_
      obtain ⟨p55, h56, hf⟩ := so_b hf
      obtain ⟨h56, k_p55⟩ := so_rk_s h56
      refine jr_rf h56 ?_
      obtain ⟨S59, h57, hf⟩ := so_b hf
      refine jr_callD (st := []) (vs_goes_X1_216 (wcV_goes 12 p53 p55 S47 k_p53 k_p55 h57)) (so_le rfl) rfl rfl (so_le rfl) dX1_work_144 ?_
      refine jr_iinc (v := v46 + (1 : Int32)) (lv' := [(0, .ref f0), (2, .ref f2), (3, .int (v46 + (1 : Int32)))]) dX1_work_147 rfl rfl (so_le rfl) rfl ?_
      refine jr_goto (tgt := 124) dX1_work_150 rfl ?_
      exact ih (v46 + (1 : Int32)) S59 hf
def fX1_work (a0 : Nat) (a1 : Int32) (S : so_St) : Option ((Int32 ⊕ Nat) × so_St) :=
  so_j (κ := Int32 → Option ((Int32 ⊕ Nat) × so_St)) (ρ := Option ((Int32 ⊕ Nat) × so_St)) (fun (v1 : Int32) =>
  so_b3 (fX1_need a0 v1 S) (fun r3 S4 =>
  so_let (so_sI S4 a0 16 (-1 : Int32)) fun S9 =>
  if (so_I S9 a0 11) = (16 : Int32) then
  (so_let (so_sI S9 a0 15 (0 : Int32)) fun S68 =>
  some (.inl (-20 : Int32), S68))
  else
  (so_let (so_new S9 13 0 6) fun S11 =>
  (so_rk (so_R S11 a0 18) [51]).bind fun p12 =>
  (so_rk (so_R S11 a0 0) [1]).bind fun p14 =>
  (fX21_init (so_at S9 13) p12 a1 p14 S11).bind fun S18 =>
  so_b3 (fX21_reads (so_at S9 13) S18) (fun r19 S20 =>
  so_gd (decide (r19 % 64 ∈ [24])) fun _ =>
  (so_rk (so_R S20 a0 7) [54]).bind fun p29 =>
  (so_rk (so_R S20 a0 5) [22]).bind fun p31 =>
  (fX1_kept a0 p29 (so_I S20 a0 11) p31 S20).bind fun S35 =>
  so_let (so_sI S35 a0 11 ((so_I S35 a0 11) + (1 : Int32))) fun S36 =>
  (so_rk (so_R S36 a0 5) [22]).bind fun p37 =>
  so_let (so_sI S36 p37 7 (0 : Int32)) fun S39 =>
  (so_rk (so_R S39 a0 5) [22]).bind fun p40 =>
  so_let (so_sI S39 p40 8 (0 : Int32)) fun S42 =>
  (so_rk (so_R S42 a0 5) [22]).bind fun p43 =>
  so_let (so_sI S42 p43 9 (0 : Int32)) fun S45 =>
  LX1_work_124 a0 r19 (fun (S61 : so_St) =>
  (so_rk (so_R S61 a0 5) [22]).bind fun p62 =>
  so_let (so_sI S61 a0 12 (so_I S61 p62 9)) fun S64 =>
  (so_rk (so_R S64 a0 5) [22]).bind fun p65 =>
  so_let (so_sI S64 a0 15 (0 : Int32)) fun S67 =>
  some (.inl (so_I S64 p65 8), S67)) so_N (0 : Int32) S45)
  (fun x21 S22 =>
  if x21 % 64 = 3 then
  (so_b2 (fX1_failed a0 x21 S22) fun r26 S27 =>
  so_let (so_sI S27 a0 15 (0 : Int32)) fun S28 =>
  some (.inl r26, S28))
  else
  none)))
  (fun x5 S6 =>
  so_gd (decide (x5 % 64 ∈ [27])) fun _ =>
  some (.inr x5, S6)))
  (fun J2 =>
  so_j (κ := Unit → Option ((Int32 ⊕ Nat) × so_St)) (ρ := Option ((Int32 ⊕ Nat) × so_St)) (fun (_u : Unit) =>
  J2 (0 : Int32))
  (fun J69 =>
  if a1 < (0 : Int32) then
  (J69 ())
  else
  (if (so_I S a0 15) < a1 then
  (J69 ())
  else
  (if (150 : Int32) < a1 then
  (J69 ())
  else
  (J2 (1 : Int32))))))
set_option maxHeartbeats 4000000 in
set_option maxRecDepth 100000 in
theorem wX1_work {res : Int32 ⊕ Nat} {S' : so_St}  (a0 : Nat) (a1 : Int32)  (S : so_St) (k_a0 : a0 % 64 ∈ [0]) (hf : fX1_work a0 a1 S = some (res, S')) : jx_Sp 14509 yX1_work (wsW_ yX1_work cX1_work 5 (Option.some Jvm.ClassFile.FieldType.int) [(28, 45, 179, 165), (52, 172, 179, 165), (28, 45, 193, 0), (52, 172, 193, 0), (179, 186, 193, 0), (193, 195, 193, 0)]) [.ref a0, .int a1] S (so_oi res) S' := by
  refine jx_ofW (by decide) (so_le rfl) ?_
  show jg_ (S, S', so_oi res) kX1_work 0 [(0, .ref a0), (1, .int a1)] [] S
  unfold fX1_work at hf
  refine jr_aload_n dX1_work_0 rfl rfl jv_rr ?_
  refine jr_iload_n dX1_work_1 rfl rfl ?_
  refine so_jE hf (fun J => ∀ (v1 : Int32), J v1 = some (res, S') → jg_ (S, S', so_oi res) kX1_work 25 [(0, .ref a0), (1, .int a1)] [.int v1, .ref a0] S) (fun v1 hf => ?_) (fun J2 hJ2 hf => ?_)
  · rcases so_b3E hf with ⟨r3, S4, h7, hf⟩ | ⟨x5, S6, h7, hf⟩
    · refine jr_callM (st := []) lk_X1_172_0 (wX1_need a0 v1 S k_a0 h7) k_a0 rfl rfl rfl (so_le rfl) (so_le rfl) dX1_work_25 ?_
      refine jr_aload_n dX1_work_28 rfl rfl jv_rr ?_
      refine jr_iconst dX1_work_29 ic_m1 ?_
      refine jr_putI fp_X1_69_0 k_a0 (so_n26 rfl) (fun h => by cases h) rfl rfl dX1_work_30 ?_
      refine so_let_e hf (fun S9 hf => ?_)
      refine jr_aload_n dX1_work_33 rfl rfl jv_rr ?_
      refine jr_getI fl_X1_100_0 k_a0 (so_n26 rfl) dX1_work_34 ?_
      refine jr_bipush dX1_work_37 bp_16 ?_
      refine jr_icmp_ne (tgt := 52) dX1_work_39 rfl (fun c10 => ?_) (fun c10 => ?_)
      · have hf := so_f c10 hf
        refine jr_new nw_X1_194 dX1_work_52 ?_
        refine so_let_e hf (fun S11 hf => ?_)
        refine jr_dup dX1_work_55 rfl ?_
        refine jr_aload_n dX1_work_56 rfl rfl jv_rr ?_
        refine jr_getR fl_X1_73_0 k_a0 (so_n26 rfl) dX1_work_57 ?_
        obtain ⟨p12, h13, hf⟩ := so_b hf
        obtain ⟨h13, k_p12⟩ := so_rk_s h13
        refine jr_rf h13 ?_
        refine jr_iload_n dX1_work_60 rfl rfl ?_
        refine jr_aload_n dX1_work_61 rfl rfl jv_rr ?_
        refine jr_getR fl_X1_22_0 k_a0 (so_n26 rfl) dX1_work_62 ?_
        obtain ⟨p14, h15, hf⟩ := so_b hf
        obtain ⟨h15, k_p14⟩ := so_rk_s h15
        refine jr_rf h15 ?_
        obtain ⟨S18, h16, hf⟩ := so_b hf
        refine jr_call (st := [.ref (so_at S9 13)]) lk_X1_196 (wX21_init (so_at S9 13) p12 a1 p14 S11 (so_atk rfl) k_p12 k_p14 h16) (jk_r1 (so_n63 (so_atk rfl) rfl)) rfl rfl (so_le rfl) (so_le rfl) dX1_work_65 ?_
        rcases so_b3E hf with ⟨r19, S20, h23, hf⟩ | ⟨x21, S22, h23, hf⟩
        · obtain ⟨g_r19, hf⟩ := so_gdE hf
          refine jr_callM (st := []) lk_X1_199_13 (wX21_reads (so_at S9 13) S18 (so_atk rfl) h23) (so_atk rfl) rfl rfl rfl (so_le rfl) (so_le rfl) dX1_work_68 ?_
          refine jr_astore_n (lv' := [(0, .ref a0), (1, .int a1), (2, .ref r19)]) dX1_work_71 rfl (so_le rfl) jv_rr rfl ?_
          refine jr_aload_n dX1_work_72 rfl rfl jv_rr ?_
          refine jr_aload_n dX1_work_73 rfl rfl jv_rr ?_
          refine jr_getR fl_X1_56_0 k_a0 (so_n26 rfl) dX1_work_74 ?_
          obtain ⟨p29, h30, hf⟩ := so_b hf
          obtain ⟨h30, k_p29⟩ := so_rk_s h30
          refine jr_rf h30 ?_
          refine jr_aload_n dX1_work_77 rfl rfl jv_rr ?_
          refine jr_getI fl_X1_100_0 k_a0 (so_n26 rfl) dX1_work_78 ?_
          refine jr_aload_n dX1_work_81 rfl rfl jv_rr ?_
          refine jr_getR fl_X1_49_0 k_a0 (so_n26 rfl) dX1_work_82 ?_
          obtain ⟨p31, h32, hf⟩ := so_b hf
          obtain ⟨h32, k_p31⟩ := so_rk_s h32
          refine jr_rf h32 ?_
          obtain ⟨S35, h33, hf⟩ := so_b hf
          refine jr_callM (st := []) lk_X1_202_0 (wX1_kept a0 p29 (so_I S20 a0 11) p31 S20 k_a0 k_p29 k_p31 h33) k_a0 rfl rfl rfl (so_le rfl) (so_le rfl) dX1_work_85 ?_
          refine jr_aload_n dX1_work_88 rfl rfl jv_rr ?_
          refine jr_dup dX1_work_89 rfl ?_
          refine jr_getI fl_X1_100_0 k_a0 (so_n26 rfl) dX1_work_90 ?_
          refine jr_iconst dX1_work_93 ic_1 ?_
          refine jr_iadd dX1_work_94 ?_
          refine jr_putI fp_X1_100_0 k_a0 (so_n26 rfl) (fun h => by cases h) rfl rfl dX1_work_95 ?_
          refine so_let_e hf (fun S36 hf => ?_)
          refine jr_aload_n dX1_work_98 rfl rfl jv_rr ?_
          refine jr_getR fl_X1_49_0 k_a0 (so_n26 rfl) dX1_work_99 ?_
          obtain ⟨p37, h38, hf⟩ := so_b hf
          obtain ⟨h38, k_p37⟩ := so_rk_s h38
          refine jr_rf h38 ?_
          refine jr_iconst dX1_work_102 ic_0 ?_
          refine jr_putI fp_X1_206_22 k_p37 (so_n26 rfl) (fun h => by cases h) rfl rfl dX1_work_103 ?_
          refine so_let_e hf (fun S39 hf => ?_)
          refine jr_aload_n dX1_work_106 rfl rfl jv_rr ?_
          refine jr_getR fl_X1_49_0 k_a0 (so_n26 rfl) dX1_work_107 ?_
          obtain ⟨p40, h41, hf⟩ := so_b hf
          obtain ⟨h41, k_p40⟩ := so_rk_s h41
          refine jr_rf h41 ?_
          refine jr_iconst dX1_work_110 ic_0 ?_
          refine jr_putI fp_X1_209_22 k_p40 (so_n26 rfl) (fun h => by cases h) rfl rfl dX1_work_111 ?_
          refine so_let_e hf (fun S42 hf => ?_)
          refine jr_aload_n dX1_work_114 rfl rfl jv_rr ?_
          refine jr_getR fl_X1_49_0 k_a0 (so_n26 rfl) dX1_work_115 ?_
          obtain ⟨p43, h44, hf⟩ := so_b hf
          obtain ⟨h44, k_p43⟩ := so_rk_s h44
          refine jr_rf h44 ?_
          refine jr_iconst dX1_work_118 ic_0 ?_
          refine jr_putI fp_X1_212_22 k_p43 (so_n26 rfl) (fun h => by cases h) rfl rfl dX1_work_119 ?_
          refine so_let_e hf (fun S45 hf => ?_)
          refine jr_iconst dX1_work_122 ic_0 ?_
          refine jr_istore_n (lv' := [(0, .ref a0), (1, .int a1), (2, .ref r19), (3, .int (0 : Int32))]) dX1_work_123 rfl (so_le rfl) rfl ?_
          refine jr_sub [0, 2, 3] rfl ?_
          refine wX1_work_124 a0 r19 k_a0 (of_decide_eq_true g_r19) _ (fun S61 hf => ?_) so_N (0 : Int32) S45 hf
          refine jr_aload_n dX1_work_153 rfl rfl jv_rr ?_
          refine jr_aload_n dX1_work_154 rfl rfl jv_rr ?_
          refine jr_getR fl_X1_49_0 k_a0 (so_n26 rfl) dX1_work_155 ?_
          obtain ⟨p62, h63, hf⟩ := so_b hf
          obtain ⟨h63, k_p62⟩ := so_rk_s h63
          refine jr_rf h63 ?_
          refine jr_getI fl_X1_212_22 k_p62 (so_n26 rfl) dX1_work_158 ?_
          refine jr_putI fp_X1_103_0 k_a0 (so_n26 rfl) (fun h => by cases h) rfl rfl dX1_work_161 ?_
          refine so_let_e hf (fun S64 hf => ?_)
          refine jr_aload_n dX1_work_164 rfl rfl jv_rr ?_
          refine jr_getR fl_X1_49_0 k_a0 (so_n26 rfl) dX1_work_165 ?_
          obtain ⟨p65, h66, hf⟩ := so_b hf
          obtain ⟨h66, k_p65⟩ := so_rk_s h66
          refine jr_rf h66 ?_
          refine jr_getI fl_X1_209_22 k_p65 (so_n26 rfl) dX1_work_168 ?_
          refine jr_istore_n (lv' := [(0, .ref a0), (3, .int (so_I S64 p65 8))]) dX1_work_171 rfl (so_le rfl) rfl ?_
          refine jr_aload_n dX1_work_172 rfl rfl jv_rr ?_
          refine jr_iconst dX1_work_173 ic_0 ?_
          refine jr_putI fp_X1_158_0 k_a0 (so_n26 rfl) (fun h => by cases h) rfl rfl dX1_work_174 ?_
          refine so_let_e hf (fun S67 hf => ?_)
          refine jr_iload_n dX1_work_177 rfl rfl ?_
          obtain ⟨rfl, rfl⟩ := so_e2 hf
          exact jr_iret rfl rfl dX1_work_178
        · refine jr_callMX (st := []) lk_X1_199_13 (wX21_reads (so_at S9 13) S18 (so_atk rfl) h23) (so_atk rfl) rfl rfl rfl (so_le rfl) (so_le rfl) dX1_work_68 ?_
          by_cases c24 : x21 % 64 = 3
          · have hf := so_t c24 hf
            refine jr_catch (by rw [c24]; decide) (by rw [c24]; decide) [(⟨28, 45, 179, 165⟩ : ExceptionTableEntry)] ⟨52, 172, 179, 165⟩ [(⟨28, 45, 193, 0⟩ : ExceptionTableEntry), (⟨52, 172, 193, 0⟩ : ExceptionTableEntry), (⟨179, 186, 193, 0⟩ : ExceptionTableEntry), (⟨193, 195, 193, 0⟩ : ExceptionTableEntry)] rfl (List.forall_mem_cons.mpr ⟨Or.inl rfl, fun _ h => by cases h⟩) rfl (by decide) q868 (by rw [c24]; exact q1065) ?_
            refine jr_astore_n (lv' := [(0, .ref a0), (1, .int a1), (2, .ref x21)]) dX1_work_179 rfl (so_le rfl) jv_rr rfl ?_
            refine jr_aload_n dX1_work_180 rfl rfl jv_rr ?_
            refine jr_aload_n dX1_work_181 rfl rfl jv_rr ?_
            obtain ⟨r26, S27, h25, hf⟩ := so_b2E hf
            refine jr_callM (st := []) lk_X1_185_0 (wX1_failed a0 x21 S22 k_a0 (so_i1 c24) h25) k_a0 rfl rfl rfl (so_le rfl) (so_le rfl) dX1_work_182 ?_
            refine jr_istore_n (lv' := [(0, .ref a0), (1, .int a1), (2, .ref x21), (3, .int r26)]) dX1_work_185 rfl (so_le rfl) rfl ?_
            refine jr_aload_n dX1_work_186 rfl rfl jv_rr ?_
            refine jr_iconst dX1_work_187 ic_0 ?_
            refine jr_putI fp_X1_158_0 k_a0 (so_n26 rfl) (fun h => by cases h) rfl rfl dX1_work_188 ?_
            refine so_let_e hf (fun S28 hf => ?_)
            refine jr_iload_n dX1_work_191 rfl rfl ?_
            obtain ⟨rfl, rfl⟩ := so_e2 hf
            exact jr_iret rfl rfl dX1_work_192
          · have hf := so_f c24 hf
            exact so_no hf
      · have hf := so_t c10 hf
        refine jr_bipush dX1_work_42 bp_m20 ?_
        refine jr_istore_n (lv' := [(0, .ref a0), (1, .int a1), (2, .int (-20 : Int32))]) dX1_work_44 rfl (so_le rfl) rfl ?_
        refine jr_aload_n dX1_work_45 rfl rfl jv_rr ?_
        refine jr_iconst dX1_work_46 ic_0 ?_
        refine jr_putI fp_X1_158_0 k_a0 (so_n26 rfl) (fun h => by cases h) rfl rfl dX1_work_47 ?_
        refine so_let_e hf (fun S68 hf => ?_)
        refine jr_iload_n dX1_work_50 rfl rfl ?_
        obtain ⟨rfl, rfl⟩ := so_e2 hf
        exact jr_iret rfl rfl dX1_work_51
    · refine jr_callMX (st := []) lk_X1_172_0 (wX1_need a0 v1 S k_a0 h7) k_a0 rfl rfl rfl (so_le rfl) (so_le rfl) dX1_work_25 ?_
      obtain ⟨g8, hf⟩ := so_gdE hf
      obtain ⟨rfl, rfl⟩ := so_e2 hf
      exact jr_out (so_l29 (of_decide_eq_true g8) rfl).1 (so_l29 (of_decide_eq_true g8) rfl).2 rfl
  · refine so_jE hf (fun J => ∀ (u0 : Unit), J u0 = some (res, S') → jg_ (S, S', so_oi res) kX1_work 24 [(0, .ref a0), (1, .int a1)] [.ref a0] S) (fun _u hf => ?_) (fun J69 hJ69 hf => ?_)
    · refine jr_iconst dX1_work_24 ic_0 ?_
      exact hJ2 (0 : Int32) hf
    · refine jr_if_lt (tgt := 24) dX1_work_2 rfl (fun c70 => ?_) (fun c70 => ?_)
      · have hf := so_t c70 hf
        exact hJ69 () hf
      · have hf := so_f c70 hf
        refine jr_iload_n dX1_work_5 rfl rfl ?_
        refine jr_aload_n dX1_work_6 rfl rfl jv_rr ?_
        refine jr_getI fl_X1_158_0 k_a0 (so_n26 rfl) dX1_work_7 ?_
        refine jr_icmp_gt (tgt := 24) dX1_work_10 rfl (fun c71 => ?_) (fun c71 => ?_)
        · have hf := so_t c71 hf
          exact hJ69 () hf
        · have hf := so_f c71 hf
          refine jr_iload_n dX1_work_13 rfl rfl ?_
          refine jr_sipush dX1_work_14 sp_150 ?_
          refine jr_icmp_gt (tgt := 24) dX1_work_17 rfl (fun c72 => ?_) (fun c72 => ?_)
          · have hf := so_t c72 hf
            exact hJ69 () hf
          · have hf := so_f c72 hf
            refine jr_iconst dX1_work_20 ic_1 ?_
            refine jr_goto (tgt := 25) dX1_work_21 rfl ?_
            exact hJ2 (1 : Int32) hf

/- X0_work -/
abbrev kX0_work : jx_K := (cX0_work, 4, RX0, 14510, (Option.some Jvm.ClassFile.FieldType.int), "work", tableOf [(0, 9, 12, 13)])
def fX0_work (a0 : Nat) (a1 : Int32) (a2 : Nat) (S : so_St) : Option (Int32 × so_St) :=
  so_b3 (fX1_work a0 a1 S) (fun r1 S2 =>
  so_gd (so_in (0 : Int32) (so_l S2 a2)) fun _ =>
  so_let (so_sL S2 a2 (0 : Int32).toNatClampNeg r1.toInt64) fun S8 =>
  some ((0 : Int32), S8))
  (fun x3 S4 =>
  if x3 % 64 = 27 then
  (some ((1 : Int32), S4))
  else
  none)
set_option maxHeartbeats 4000000 in
set_option maxRecDepth 100000 in
theorem wX0_work {res : Int32} {S' : so_St}  (a0 : Nat) (a1 : Int32) (a2 : Nat)  (S : so_St) (k_a0 : a0 % 64 ∈ [0]) (k_a2 : a2 % 64 ∈ [53]) (hf : fX0_work a0 a1 a2 S = some (res, S')) : jx_Sp 14510 yX0_work (wsW_ yX0_work cX0_work 4 (Option.some Jvm.ClassFile.FieldType.int) [(0, 9, 12, 13)]) [.ref a0, .int a1, .ref a2] S (.inl (some (.int res))) S' := by
  refine jx_ofW (by decide) (so_le rfl) ?_
  show jg_ (S, S', .inl (some (.int res))) kX0_work 0 [(0, .ref a0), (1, .int a1), (2, .ref a2)] [] S
  unfold fX0_work at hf
  refine jr_aload_n dX0_work_0 rfl rfl jv_rr ?_
  refine jr_iconst dX0_work_1 ic_0 ?_
  refine jr_aload_n dX0_work_2 rfl rfl jv_rr ?_
  refine jr_iload_n dX0_work_3 rfl rfl ?_
  rcases so_b3E hf with ⟨r1, S2, h5, hf⟩ | ⟨x3, S4, h5, hf⟩
  · refine jr_callM (st := [.int (0 : Int32), .ref a2]) lk_X0_18_0 (wX1_work a0 a1 S k_a0 h5) k_a0 rfl rfl rfl (so_le rfl) (so_le rfl) dX0_work_4 ?_
    refine jr_i2l dX0_work_7 ?_
    obtain ⟨g7, hf⟩ := so_gdE hf
    refine jr_lastore (so_m1 k_a2) (so_inE g7) dX0_work_8 ?_
    refine so_let_e hf (fun S8 hf => ?_)
    refine jr_goto (tgt := 15) dX0_work_9 rfl ?_
    refine jr_iconst dX0_work_15 ic_0 ?_
    obtain ⟨rfl, rfl⟩ := so_e2 hf
    exact jr_iret rfl rfl dX0_work_16
  · refine jr_callMX (st := [.int (0 : Int32), .ref a2]) lk_X0_18_0 (wX1_work a0 a1 S k_a0 h5) k_a0 rfl rfl rfl (so_le rfl) (so_le rfl) dX0_work_4 ?_
    by_cases c6 : x3 % 64 = 27
    · have hf := so_t c6 hf
      refine jr_catch (by rw [c6]; decide) (by rw [c6]; decide) [] ⟨0, 9, 12, 13⟩ [] rfl (fun _ h => by cases h) rfl (by decide) q863 (by rw [c6]; exact q181) ?_
      refine jr_astore_n (lv' := [(0, .ref a0), (1, .int a1), (2, .ref a2), (3, .ref x3)]) dX0_work_12 rfl (so_le rfl) jv_rr rfl ?_
      refine jr_iconst dX0_work_13 ic_1 ?_
      obtain ⟨rfl, rfl⟩ := so_e2 hf
      exact jr_iret rfl rfl dX0_work_14
    · have hf := so_f c6 hf
      exact so_no hf

/- X29_init -/
abbrev kX29_init : jx_K := (cX29_init, 3, RX29, 2, (Option.none : Option Jvm.ClassFile.FieldType), "<init>", [])
def fX29_init (a0 : Nat) (a1 : Nat) (a2 : Int32) (S : so_St) : Option so_St :=
  (fX9_init a0 a1 a2 S).bind fun S3 =>
  so_let (so_new S3 50 61 61) fun S4 =>
  so_let (so_sR S4 a0 5 (some (so_at S3 50))) fun S5 =>
  some S5
set_option maxHeartbeats 4000000 in
set_option maxRecDepth 100000 in
theorem wX29_init {S' : so_St}  (a0 : Nat) (a1 : Nat) (a2 : Int32)  (S : so_St) (k_a0 : a0 % 64 ∈ [19]) (k_a1 : a1 % 64 ∈ [51]) (hf : fX29_init a0 a1 a2 S = some S') : jx_Sp 2 yX29_init (ws_ yX29_init cX29_init 3 (Option.none : Option Jvm.ClassFile.FieldType)) [.ref a0, .ref a1, .int a2] S (.inl none) S' := by
  refine jx_of (plainFor_of_name (by decide)) (so_le rfl) ?_
  show jg_ (S, S', .inl none) kX29_init 0 [(0, .ref a0), (1, .ref a1), (2, .int a2)] [] S
  unfold fX29_init at hf
  refine jr_aload_n dX29_init_0 rfl rfl jv_rr ?_
  refine jr_aload_n dX29_init_1 rfl rfl jv_rr ?_
  refine jr_iload_n dX29_init_2 rfl rfl ?_
  obtain ⟨S3, h1, hf⟩ := so_b hf
  refine jr_call (st := []) lk_X29_3 (wX9_init a0 a1 a2 S (so_ms k_a0 rfl) k_a1 h1) (jk_r1 (so_n63 k_a0 rfl)) rfl rfl (so_le rfl) (so_le rfl) dX29_init_3 ?_
  refine jr_aload_n dX29_init_6 rfl rfl jv_rr ?_
  refine jr_bipush dX29_init_7 bp_61 ?_
  refine jr_newi q251 (by decide) (by decide) dX29_init_9 ?_
  refine so_let_e hf (fun S4 hf => ?_)
  refine jr_putR (r := (some (so_at S3 50))) rfl fp_X29_9_19 k_a0 (so_n26 rfl) (fun _ => rfl) rfl dX29_init_11 ?_
  refine so_let_e hf (fun S5 hf => ?_)
  obtain rfl := so_e1 hf
  exact jr_vret rfl dX29_init_14

/- X29_reads -/
abbrev kX29_reads : jx_K := (cX29_reads, 2, RX29, 6, (Option.some (Jvm.ClassFile.FieldType.array Jvm.ClassFile.FieldType.int)), "reads", [])
def LX29_reads_2 (f0 : Nat) (k21 : so_St → Option ((Nat ⊕ Nat) × so_St)) : Nat → Int32 → so_St → Option ((Nat ⊕ Nat) × so_St)
  | 0, _, _ => none
  | n + 1, v1, S2 =>
    if (61 : Int32) ≤ v1 then
    (k21 S2)
    else
    ((so_rk (so_R S2 f0 5) [50]).bind fun p4 =>
    so_gd (so_in v1 (so_l S2 p4)) fun _ =>
    so_let (so_sI S2 p4 v1.toNatClampNeg (-1 : Int32)) fun S7 =>
    LX29_reads_2 f0 k21 n (v1 + (1 : Int32)) S7)
set_option maxHeartbeats 4000000 in
set_option maxRecDepth 100000 in
theorem wX29_reads_2 {res : Nat ⊕ Nat} {S' : so_St} {S0 : so_St}   (f0 : Nat)   (k_f0 : f0 % 64 ∈ [19]) (k21 : so_St → Option ((Nat ⊕ Nat) × so_St)) (h21 : ∀ (S8 : so_St), k21 S8 = some (res, S') → jg_ (S0, S', so_or res) kX29_reads 21 [(0, .ref f0)] [] S8) : ∀ (n : Nat) (v1 : Int32) (S2 : so_St), LX29_reads_2 f0 k21 n v1 S2 = some (res, S') → jg_ (S0, S', so_or res) kX29_reads 2 [(0, .ref f0), (1, .int v1)] [] S2 := by
  intro n
  induction n with
  | zero =>
    intro v1 S2 hf
    exact so_no hf
  | succ n ih =>
    intro v1 S2 hf
    rw [LX29_reads_2] at hf
    refine jr_iload_n dX29_reads_2 rfl rfl ?_
    refine jr_bipush dX29_reads_3 bp_61 ?_
    refine jr_icmp_ge (tgt := 21) dX29_reads_5 rfl (fun c3 => ?_) (fun c3 => ?_)
    · have hf := so_t c3 hf
      refine jr_sub [0] rfl ?_
      exact h21 S2 hf
    · have hf := so_f c3 hf
      refine jr_aload_n dX29_reads_8 rfl rfl jv_rr ?_
      refine jr_getR fl_X29_9_19 k_f0 (so_n26 rfl) dX29_reads_9 ?_
      obtain ⟨p4, h5, hf⟩ := so_b hf
      obtain ⟨h5, k_p4⟩ := so_rk_s h5
      refine jr_rf h5 ?_
      refine jr_iload_n dX29_reads_12 rfl rfl ?_
      refine jr_iconst dX29_reads_13 ic_m1 ?_
      obtain ⟨g6, hf⟩ := so_gdE hf
      refine jr_iastore (so_m1 k_p4) (so_inE g6) dX29_reads_14 ?_
      refine so_let_e hf (fun S7 hf => ?_)
      refine jr_iinc (v := v1 + (1 : Int32)) (lv' := [(0, .ref f0), (1, .int (v1 + (1 : Int32)))]) dX29_reads_15 rfl rfl (so_le rfl) rfl ?_
      refine jr_goto (tgt := 2) dX29_reads_18 rfl ?_
      exact ih (v1 + (1 : Int32)) S7 hf
def LX29_reads_26 (f0 : Nat) (k55 : so_St → Option ((Nat ⊕ Nat) × so_St)) (k77 : so_St → Option ((Nat ⊕ Nat) × so_St)) (k127 : so_St → Option ((Nat ⊕ Nat) × so_St)) : Nat → so_St → Option ((Nat ⊕ Nat) × so_St)
  | 0, _ => none
  | n + 1, S13 =>
    if (so_I S13 f0 1) ≤ (so_I S13 f0 2) then
    (k127 S13)
    else
    (so_b3 (fX9_number f0 (0 : Int32) (60 : Int32) S13) (fun r15 S16 =>
    (so_rk (so_R S16 f0 5) [50]).bind fun p21 =>
    so_gd (so_in r15 (so_l S16 p21)) fun _ =>
    if (so_I S16 p21 r15.toNatClampNeg) = (-1 : Int32) then
    (if (so_I S16 f0 6) = (6 : Int32) then
    (k77 S16)
    else
    ((so_rk (so_R S16 f0 5) [50]).bind fun p26 =>
    so_b3 (fX9_number f0 (0 : Int32) (99 : Int32) S16) (fun r28 S29 =>
    so_gd (so_in r15 (so_l S29 p26)) fun _ =>
    so_let (so_sI S29 p26 r15.toNatClampNeg r28) fun S35 =>
    so_b3 (fX9_need f0 (59 : Int32) S35) (fun r36 S37 =>
    so_let (so_sI S37 f0 6 ((so_I S37 f0 6) + (1 : Int32))) fun S42 =>
    so_b2 (fX9_sign f0 S42) fun r44 S45 =>
    LX29_reads_26 f0 k55 k77 k127 n S45)
    (fun x38 S39 =>
    so_gd (decide (x38 % 64 ∈ [3])) fun _ =>
    some (.inr x38, S39)))
    (fun x30 S31 =>
    so_gd (decide (x30 % 64 ∈ [3])) fun _ =>
    some (.inr x30, S31))))
    else
    (k55 S16))
    (fun x17 S18 =>
    so_gd (decide (x17 % 64 ∈ [3])) fun _ =>
    some (.inr x17, S18)))
set_option maxHeartbeats 4000000 in
set_option maxRecDepth 100000 in
theorem wX29_reads_26 {res : Nat ⊕ Nat} {S' : so_St} {S0 : so_St}   (f0 : Nat)   (k_f0 : f0 % 64 ∈ [19]) (k55 : so_St → Option ((Nat ⊕ Nat) × so_St)) (h55 : ∀ (S46 : so_St), k55 S46 = some (res, S') → jg_ (S0, S', so_or res) kX29_reads 55 [(0, .ref f0)] [] S46) (k77 : so_St → Option ((Nat ⊕ Nat) × so_St)) (h77 : ∀ (S47 : so_St), k77 S47 = some (res, S') → jg_ (S0, S', so_or res) kX29_reads 77 [(0, .ref f0)] [] S47) (k127 : so_St → Option ((Nat ⊕ Nat) × so_St)) (h127 : ∀ (S48 : so_St), k127 S48 = some (res, S') → jg_ (S0, S', so_or res) kX29_reads 127 [(0, .ref f0)] [] S48) : ∀ (n : Nat) (S13 : so_St), LX29_reads_26 f0 k55 k77 k127 n S13 = some (res, S') → jg_ (S0, S', so_or res) kX29_reads 26 [(0, .ref f0)] [] S13 := by
  intro n
  induction n with
  | zero =>
    intro S13 hf
    exact so_no hf
  | succ n ih =>
    intro S13 hf
    rw [LX29_reads_26] at hf
    refine jr_aload_n dX29_reads_26 rfl rfl jv_rr ?_
    refine jr_getI fl_X29_19_19 k_f0 (so_n26 rfl) dX29_reads_27 ?_
    refine jr_aload_n dX29_reads_30 rfl rfl jv_rr ?_
    refine jr_getI fl_X29_23_19 k_f0 (so_n26 rfl) dX29_reads_31 ?_
    refine jr_icmp_ge (tgt := 127) dX29_reads_34 rfl (fun c14 => ?_) (fun c14 => ?_)
    · have hf := so_t c14 hf
      exact h127 S13 hf
    · have hf := so_f c14 hf
      refine jr_aload_n dX29_reads_37 rfl rfl jv_rr ?_
      refine jr_iconst dX29_reads_38 ic_0 ?_
      refine jr_bipush dX29_reads_39 bp_60 ?_
      rcases so_b3E hf with ⟨r15, S16, h19, hf⟩ | ⟨x17, S18, h19, hf⟩
      · refine jr_callM (st := []) lk_X29_26_19 (wX9_number f0 (0 : Int32) (60 : Int32) S13 (so_ms k_f0 rfl) h19) k_f0 rfl rfl rfl (so_le rfl) (so_le rfl) dX29_reads_41 ?_
        refine jr_istore_n (lv' := [(0, .ref f0), (1, .int r15)]) dX29_reads_44 rfl (so_le rfl) rfl ?_
        refine jr_aload_n dX29_reads_45 rfl rfl jv_rr ?_
        refine jr_getR fl_X29_9_19 k_f0 (so_n26 rfl) dX29_reads_46 ?_
        obtain ⟨p21, h22, hf⟩ := so_b hf
        obtain ⟨h22, k_p21⟩ := so_rk_s h22
        refine jr_rf h22 ?_
        refine jr_iload_n dX29_reads_49 rfl rfl ?_
        obtain ⟨g23, hf⟩ := so_gdE hf
        refine jr_iaload (so_m1 k_p21) (so_inE g23) dX29_reads_50 ?_
        refine jr_iconst dX29_reads_51 ic_m1 ?_
        refine jr_icmp_eq (tgt := 68) dX29_reads_52 rfl (fun c24 => ?_) (fun c24 => ?_)
        · have hf := so_t c24 hf
          refine jr_aload_n dX29_reads_68 rfl rfl jv_rr ?_
          refine jr_getI fl_X29_38_19 k_f0 (so_n26 rfl) dX29_reads_69 ?_
          refine jr_bipush dX29_reads_72 bp_6 ?_
          refine jr_icmp_ne (tgt := 90) dX29_reads_74 rfl (fun c25 => ?_) (fun c25 => ?_)
          · have hf := so_f c25 hf
            refine jr_aload_n dX29_reads_90 rfl rfl jv_rr ?_
            refine jr_getR fl_X29_9_19 k_f0 (so_n26 rfl) dX29_reads_91 ?_
            obtain ⟨p26, h27, hf⟩ := so_b hf
            obtain ⟨h27, k_p26⟩ := so_rk_s h27
            refine jr_rf h27 ?_
            refine jr_iload_n dX29_reads_94 rfl rfl ?_
            refine jr_aload_n dX29_reads_95 rfl rfl jv_rr ?_
            refine jr_iconst dX29_reads_96 ic_0 ?_
            refine jr_bipush dX29_reads_97 bp_99 ?_
            rcases so_b3E hf with ⟨r28, S29, h32, hf⟩ | ⟨x30, S31, h32, hf⟩
            · refine jr_callM (st := [.int r15, .ref p26]) lk_X29_26_19 (wX9_number f0 (0 : Int32) (99 : Int32) S16 (so_ms k_f0 rfl) h32) k_f0 rfl rfl rfl (so_le rfl) (so_le rfl) dX29_reads_99 ?_
              obtain ⟨g34, hf⟩ := so_gdE hf
              refine jr_iastore (so_m1 k_p26) (so_inE g34) dX29_reads_102 ?_
              refine so_let_e hf (fun S35 hf => ?_)
              refine jr_aload_n dX29_reads_103 rfl rfl jv_rr ?_
              refine jr_bipush dX29_reads_104 bp_59 ?_
              rcases so_b3E hf with ⟨r36, S37, h40, hf⟩ | ⟨x38, S39, h40, hf⟩
              · refine jr_callM (st := []) lk_X29_41_19 (wX9_need f0 (59 : Int32) S35 (so_ms k_f0 rfl) h40) k_f0 rfl rfl rfl (so_le rfl) (so_le rfl) dX29_reads_106 ?_
                refine jr_aload_n dX29_reads_109 rfl rfl jv_rr ?_
                refine jr_dup dX29_reads_110 rfl ?_
                refine jr_getI fl_X29_38_19 k_f0 (so_n26 rfl) dX29_reads_111 ?_
                refine jr_iconst dX29_reads_114 ic_1 ?_
                refine jr_iadd dX29_reads_115 ?_
                refine jr_putI fp_X29_38_19 k_f0 (so_n26 rfl) (fun h => by cases h) rfl rfl dX29_reads_116 ?_
                refine so_let_e hf (fun S42 hf => ?_)
                refine jr_aload_n dX29_reads_119 rfl rfl jv_rr ?_
                obtain ⟨r44, S45, h43, hf⟩ := so_b2E hf
                refine jr_callM (st := []) lk_X29_15_19 (wX9_sign f0 S42 (so_ms k_f0 rfl) h43) k_f0 rfl rfl rfl (so_le rfl) (so_le rfl) dX29_reads_120 ?_
                refine jr_pop dX29_reads_123 rfl ?_
                refine jr_goto (tgt := 26) dX29_reads_124 rfl ?_
                refine jr_sub [0] rfl ?_
                exact ih S45 hf
              · refine jr_callMX (st := []) lk_X29_41_19 (wX9_need f0 (59 : Int32) S35 (so_ms k_f0 rfl) h40) k_f0 rfl rfl rfl (so_le rfl) (so_le rfl) dX29_reads_106 ?_
                obtain ⟨g41, hf⟩ := so_gdE hf
                obtain ⟨rfl, rfl⟩ := so_e2 hf
                exact jr_out (so_l29 (of_decide_eq_true g41) rfl).1 (so_l29 (of_decide_eq_true g41) rfl).2 rfl
            · refine jr_callMX (st := [.int r15, .ref p26]) lk_X29_26_19 (wX9_number f0 (0 : Int32) (99 : Int32) S16 (so_ms k_f0 rfl) h32) k_f0 rfl rfl rfl (so_le rfl) (so_le rfl) dX29_reads_99 ?_
              obtain ⟨g33, hf⟩ := so_gdE hf
              obtain ⟨rfl, rfl⟩ := so_e2 hf
              exact jr_out (so_l29 (of_decide_eq_true g33) rfl).1 (so_l29 (of_decide_eq_true g33) rfl).2 rfl
          · have hf := so_t c25 hf
            refine jr_sub [0] rfl ?_
            exact h77 S16 hf
        · have hf := so_f c24 hf
          refine jr_sub [0] rfl ?_
          exact h55 S16 hf
      · refine jr_callMX (st := []) lk_X29_26_19 (wX9_number f0 (0 : Int32) (60 : Int32) S13 (so_ms k_f0 rfl) h19) k_f0 rfl rfl rfl (so_le rfl) (so_le rfl) dX29_reads_41 ?_
        obtain ⟨g20, hf⟩ := so_gdE hf
        obtain ⟨rfl, rfl⟩ := so_e2 hf
        exact jr_out (so_l29 (of_decide_eq_true g20) rfl).1 (so_l29 (of_decide_eq_true g20) rfl).2 rfl
def fX29_reads (a0 : Nat) (S : so_St) : Option ((Nat ⊕ Nat) × so_St) :=
  LX29_reads_2 a0 (fun (S9 : so_St) =>
  so_b2 (fX9_sign a0 S9) fun r11 S12 =>
  LX29_reads_26 a0 (fun (S49 : so_St) =>
  so_let (so_new S49 3 0 8) fun S50 =>
  (fX11_init (so_at S49 3) (2 : Int32) (so_I S50 a0 3) S50).bind fun S53 =>
  some (.inr (so_at S49 3), S53)) (fun (S55 : so_St) =>
  so_let (so_new S55 3 0 8) fun S56 =>
  (fX11_init (so_at S55 3) (3 : Int32) (so_I S56 a0 3) S56).bind fun S59 =>
  some (.inr (so_at S55 3), S59)) (fun (S61 : so_St) =>
  (so_rk (so_R S61 a0 5) [50]).bind fun p62 =>
  some (.inl p62, S61)) so_N S12) so_N (0 : Int32) S
set_option maxHeartbeats 4000000 in
set_option maxRecDepth 100000 in
theorem wX29_reads {res : Nat ⊕ Nat} {S' : so_St}  (a0 : Nat)  (S : so_St) (k_a0 : a0 % 64 ∈ [19]) (hf : fX29_reads a0 S = some (res, S')) : jx_Sp 6 yX29_reads (ws_ yX29_reads cX29_reads 2 (Option.some (Jvm.ClassFile.FieldType.array Jvm.ClassFile.FieldType.int))) [.ref a0] S (so_or res) S' := by
  refine jx_of (plainFor_of_name (by decide)) (so_le rfl) ?_
  show jg_ (S, S', so_or res) kX29_reads 0 [(0, .ref a0)] [] S
  unfold fX29_reads at hf
  refine jr_iconst dX29_reads_0 ic_0 ?_
  refine jr_istore_n (lv' := [(0, .ref a0), (1, .int (0 : Int32))]) dX29_reads_1 rfl (so_le rfl) rfl ?_
  refine wX29_reads_2 a0 k_a0 _ (fun S9 hf => ?_) so_N (0 : Int32) S hf
  refine jr_aload_n dX29_reads_21 rfl rfl jv_rr ?_
  obtain ⟨r11, S12, h10, hf⟩ := so_b2E hf
  refine jr_callM (st := []) lk_X29_15_19 (wX9_sign a0 S9 (so_ms k_a0 rfl) h10) k_a0 rfl rfl rfl (so_le rfl) (so_le rfl) dX29_reads_22 ?_
  refine jr_pop dX29_reads_25 rfl ?_
  refine wX29_reads_26 a0 k_a0 _ (fun S49 hf => ?_) _ (fun S55 hf => ?_) _ (fun S61 hf => ?_) so_N S12 hf
  · refine jr_new nw_X29_30 dX29_reads_55 ?_
    refine so_let_e hf (fun S50 hf => ?_)
    refine jr_dup dX29_reads_58 rfl ?_
    refine jr_iconst dX29_reads_59 ic_2 ?_
    refine jr_aload_n dX29_reads_60 rfl rfl jv_rr ?_
    refine jr_getI fl_X29_32_19 k_a0 (so_n26 rfl) dX29_reads_61 ?_
    obtain ⟨S53, h51, hf⟩ := so_b hf
    refine jr_call (st := [.ref (so_at S49 3)]) lk_X29_35 (wX11_init (so_at S49 3) (2 : Int32) (so_I S50 a0 3) S50 (so_atk rfl) h51) (jk_r1 (so_n63 (so_atk rfl) rfl)) rfl rfl (so_le rfl) (so_le rfl) dX29_reads_64 ?_
    obtain ⟨rfl, rfl⟩ := so_e2 hf
    exact jr_athrow (so_n63 (so_atk rfl) rfl) dX29_reads_67 (jr_out (so_l29 (so_atk rfl) rfl).1 (so_l29 (so_atk rfl) rfl).2 rfl)
  · refine jr_new nw_X29_30 dX29_reads_77 ?_
    refine so_let_e hf (fun S56 hf => ?_)
    refine jr_dup dX29_reads_80 rfl ?_
    refine jr_iconst dX29_reads_81 ic_3 ?_
    refine jr_aload_n dX29_reads_82 rfl rfl jv_rr ?_
    refine jr_getI fl_X29_32_19 k_a0 (so_n26 rfl) dX29_reads_83 ?_
    obtain ⟨S59, h57, hf⟩ := so_b hf
    refine jr_call (st := [.ref (so_at S55 3)]) lk_X29_35 (wX11_init (so_at S55 3) (3 : Int32) (so_I S56 a0 3) S56 (so_atk rfl) h57) (jk_r1 (so_n63 (so_atk rfl) rfl)) rfl rfl (so_le rfl) (so_le rfl) dX29_reads_86 ?_
    obtain ⟨rfl, rfl⟩ := so_e2 hf
    exact jr_athrow (so_n63 (so_atk rfl) rfl) dX29_reads_89 (jr_out (so_l29 (so_atk rfl) rfl).1 (so_l29 (so_atk rfl) rfl).2 rfl)
  · refine jr_aload_n dX29_reads_127 rfl rfl jv_rr ?_
    refine jr_getR fl_X29_9_19 k_a0 (so_n26 rfl) dX29_reads_128 ?_
    obtain ⟨p62, h63, hf⟩ := so_b hf
    obtain ⟨h63, k_p62⟩ := so_rk_s h63
    refine jr_rf h63 ?_
    obtain ⟨rfl, rfl⟩ := so_e2 hf
    exact jr_aret rfl (Or.inr ⟨_, rfl⟩) jv_rr dX29_reads_131

/- X1_book -/
abbrev kX1_book : jx_K := (cX1_book, 5, RX1, 7, (Option.some Jvm.ClassFile.FieldType.int), "book", tableOf [(27, 73, 80, 165), (27, 73, 94, 0), (80, 87, 94, 0), (94, 96, 94, 0)])
def fX1_book (a0 : Nat) (a1 : Int32) (S : so_St) : Option ((Int32 ⊕ Nat) × so_St) :=
  so_j (κ := Int32 → Option ((Int32 ⊕ Nat) × so_St)) (ρ := Option ((Int32 ⊕ Nat) × so_St)) (fun (v1 : Int32) =>
  so_b3 (fX1_need a0 v1 S) (fun r3 S4 =>
  so_let (so_sI S4 a0 16 (-1 : Int32)) fun S9 =>
  so_let (so_new S9 19 0 7) fun S10 =>
  (so_rk (so_R S10 a0 18) [51]).bind fun p11 =>
  (fX29_init (so_at S9 19) p11 a1 S10).bind fun S15 =>
  so_b3 (fX29_reads (so_at S9 19) S15) (fun r16 S17 =>
  so_gd (decide (r16 % 64 ∈ [50])) fun _ =>
  (so_rk (so_R S17 a0 3) [50]).bind fun p26 =>
  so_gd (so_cp (0 : Int32) (0 : Int32) (61 : Int32) (so_l S17 r16) (so_l S17 p26)) fun _ =>
  so_let (so_cpI S17 r16 p26 (0 : Int32).toNatClampNeg (0 : Int32).toNatClampNeg (61 : Int32).toNatClampNeg) fun S29 =>
  so_let (so_sI S29 a0 13 (so_I S29 (so_at S9 19) 6)) fun S30 =>
  so_let (so_sI S30 a0 15 (0 : Int32)) fun S31 =>
  some (.inl (so_I S30 a0 13), S31))
  (fun x18 S19 =>
  if x18 % 64 = 3 then
  (so_b2 (fX1_failed a0 x18 S19) fun r23 S24 =>
  so_let (so_sI S24 a0 15 (0 : Int32)) fun S25 =>
  some (.inl r23, S25))
  else
  none))
  (fun x5 S6 =>
  so_gd (decide (x5 % 64 ∈ [27])) fun _ =>
  some (.inr x5, S6)))
  (fun J2 =>
  so_j (κ := Unit → Option ((Int32 ⊕ Nat) × so_St)) (ρ := Option ((Int32 ⊕ Nat) × so_St)) (fun (_u : Unit) =>
  J2 (0 : Int32))
  (fun J32 =>
  if a1 < (0 : Int32) then
  (J32 ())
  else
  (if (so_I S a0 15) < a1 then
  (J32 ())
  else
  (if (60 : Int32) < a1 then
  (J32 ())
  else
  (J2 (1 : Int32))))))
set_option maxHeartbeats 4000000 in
set_option maxRecDepth 100000 in
theorem wX1_book {res : Int32 ⊕ Nat} {S' : so_St}  (a0 : Nat) (a1 : Int32)  (S : so_St) (k_a0 : a0 % 64 ∈ [0]) (hf : fX1_book a0 a1 S = some (res, S')) : jx_Sp 7 yX1_book (wsW_ yX1_book cX1_book 5 (Option.some Jvm.ClassFile.FieldType.int) [(27, 73, 80, 165), (27, 73, 94, 0), (80, 87, 94, 0), (94, 96, 94, 0)]) [.ref a0, .int a1] S (so_oi res) S' := by
  refine jx_ofW (by decide) (so_le rfl) ?_
  show jg_ (S, S', so_oi res) kX1_book 0 [(0, .ref a0), (1, .int a1)] [] S
  unfold fX1_book at hf
  refine jr_aload_n dX1_book_0 rfl rfl jv_rr ?_
  refine jr_iload_n dX1_book_1 rfl rfl ?_
  refine so_jE hf (fun J => ∀ (v1 : Int32), J v1 = some (res, S') → jg_ (S, S', so_oi res) kX1_book 24 [(0, .ref a0), (1, .int a1)] [.int v1, .ref a0] S) (fun v1 hf => ?_) (fun J2 hJ2 hf => ?_)
  · rcases so_b3E hf with ⟨r3, S4, h7, hf⟩ | ⟨x5, S6, h7, hf⟩
    · refine jr_callM (st := []) lk_X1_172_0 (wX1_need a0 v1 S k_a0 h7) k_a0 rfl rfl rfl (so_le rfl) (so_le rfl) dX1_book_24 ?_
      refine jr_aload_n dX1_book_27 rfl rfl jv_rr ?_
      refine jr_iconst dX1_book_28 ic_m1 ?_
      refine jr_putI fp_X1_69_0 k_a0 (so_n26 rfl) (fun h => by cases h) rfl rfl dX1_book_29 ?_
      refine so_let_e hf (fun S9 hf => ?_)
      refine jr_new nw_X1_220 dX1_book_32 ?_
      refine so_let_e hf (fun S10 hf => ?_)
      refine jr_dup dX1_book_35 rfl ?_
      refine jr_aload_n dX1_book_36 rfl rfl jv_rr ?_
      refine jr_getR fl_X1_73_0 k_a0 (so_n26 rfl) dX1_book_37 ?_
      obtain ⟨p11, h12, hf⟩ := so_b hf
      obtain ⟨h12, k_p11⟩ := so_rk_s h12
      refine jr_rf h12 ?_
      refine jr_iload_n dX1_book_40 rfl rfl ?_
      obtain ⟨S15, h13, hf⟩ := so_b hf
      refine jr_call (st := [.ref (so_at S9 19)]) lk_X1_222 (wX29_init (so_at S9 19) p11 a1 S10 (so_atk rfl) k_p11 h13) (jk_r1 (so_n63 (so_atk rfl) rfl)) rfl rfl (so_le rfl) (so_le rfl) dX1_book_41 ?_
      refine jr_astore_n (lv' := [(0, .ref a0), (1, .int a1), (2, .ref (so_at S9 19))]) dX1_book_44 rfl (so_le rfl) jv_rr rfl ?_
      refine jr_aload_n dX1_book_45 rfl rfl jv_rr ?_
      rcases so_b3E hf with ⟨r16, S17, h20, hf⟩ | ⟨x18, S19, h20, hf⟩
      · obtain ⟨g_r16, hf⟩ := so_gdE hf
        refine jr_callM (st := []) lk_X1_223_19 (wX29_reads (so_at S9 19) S15 (so_atk rfl) h20) (so_atk rfl) rfl rfl rfl (so_le rfl) (so_le rfl) dX1_book_46 ?_
        refine jr_iconst dX1_book_49 ic_0 ?_
        refine jr_aload_n dX1_book_50 rfl rfl jv_rr ?_
        refine jr_getR fl_X1_38_0 k_a0 (so_n26 rfl) dX1_book_51 ?_
        obtain ⟨p26, h27, hf⟩ := so_b hf
        obtain ⟨h27, k_p26⟩ := so_rk_s h27
        refine jr_rf h27 ?_
        refine jr_iconst dX1_book_54 ic_0 ?_
        refine jr_bipush dX1_book_55 bp_61 ?_
        obtain ⟨g28, hf⟩ := so_gdE hf
        refine jr_copyI q796 q299 q298 q115 (so_m1 (of_decide_eq_true g_r16)) (so_m1 k_p26) (so_cpE g28).1 (so_cpE g28).2.1 (so_cpE g28).2.2.1 (so_cpE g28).2.2.2.1 (so_cpE g28).2.2.2.2 (so_le rfl) (so_le rfl) dX1_book_57 ?_
        refine so_let_e hf (fun S29 hf => ?_)
        refine jr_aload_n dX1_book_60 rfl rfl jv_rr ?_
        refine jr_aload_n dX1_book_61 rfl rfl jv_rr ?_
        refine jr_getI fl_X1_232_19 (so_atk rfl) (so_n26 rfl) dX1_book_62 ?_
        refine jr_putI fp_X1_106_0 k_a0 (so_n26 rfl) (fun h => by cases h) rfl rfl dX1_book_65 ?_
        refine so_let_e hf (fun S30 hf => ?_)
        refine jr_aload_n dX1_book_68 rfl rfl jv_rr ?_
        refine jr_getI fl_X1_106_0 k_a0 (so_n26 rfl) dX1_book_69 ?_
        refine jr_istore_n (lv' := [(0, .ref a0), (1, .int a1), (2, .ref (so_at S9 19)), (3, .int (so_I S30 a0 13))]) dX1_book_72 rfl (so_le rfl) rfl ?_
        refine jr_aload_n dX1_book_73 rfl rfl jv_rr ?_
        refine jr_iconst dX1_book_74 ic_0 ?_
        refine jr_putI fp_X1_158_0 k_a0 (so_n26 rfl) (fun h => by cases h) rfl rfl dX1_book_75 ?_
        refine so_let_e hf (fun S31 hf => ?_)
        refine jr_iload_n dX1_book_78 rfl rfl ?_
        obtain ⟨rfl, rfl⟩ := so_e2 hf
        exact jr_iret rfl rfl dX1_book_79
      · refine jr_callMX (st := []) lk_X1_223_19 (wX29_reads (so_at S9 19) S15 (so_atk rfl) h20) (so_atk rfl) rfl rfl rfl (so_le rfl) (so_le rfl) dX1_book_46 ?_
        by_cases c21 : x18 % 64 = 3
        · have hf := so_t c21 hf
          refine jr_catch (by rw [c21]; decide) (by rw [c21]; decide) [] ⟨27, 73, 80, 165⟩ [(⟨27, 73, 94, 0⟩ : ExceptionTableEntry), (⟨80, 87, 94, 0⟩ : ExceptionTableEntry), (⟨94, 96, 94, 0⟩ : ExceptionTableEntry)] rfl (fun _ h => by cases h) rfl (by decide) q868 (by rw [c21]; exact q1065) ?_
          refine jr_astore_n (lv' := [(0, .ref a0), (1, .int a1), (2, .ref x18)]) dX1_book_80 rfl (so_le rfl) jv_rr rfl ?_
          refine jr_aload_n dX1_book_81 rfl rfl jv_rr ?_
          refine jr_aload_n dX1_book_82 rfl rfl jv_rr ?_
          obtain ⟨r23, S24, h22, hf⟩ := so_b2E hf
          refine jr_callM (st := []) lk_X1_185_0 (wX1_failed a0 x18 S19 k_a0 (so_i1 c21) h22) k_a0 rfl rfl rfl (so_le rfl) (so_le rfl) dX1_book_83 ?_
          refine jr_istore_n (lv' := [(0, .ref a0), (1, .int a1), (2, .ref x18), (3, .int r23)]) dX1_book_86 rfl (so_le rfl) rfl ?_
          refine jr_aload_n dX1_book_87 rfl rfl jv_rr ?_
          refine jr_iconst dX1_book_88 ic_0 ?_
          refine jr_putI fp_X1_158_0 k_a0 (so_n26 rfl) (fun h => by cases h) rfl rfl dX1_book_89 ?_
          refine so_let_e hf (fun S25 hf => ?_)
          refine jr_iload_n dX1_book_92 rfl rfl ?_
          obtain ⟨rfl, rfl⟩ := so_e2 hf
          exact jr_iret rfl rfl dX1_book_93
        · have hf := so_f c21 hf
          exact so_no hf
    · refine jr_callMX (st := []) lk_X1_172_0 (wX1_need a0 v1 S k_a0 h7) k_a0 rfl rfl rfl (so_le rfl) (so_le rfl) dX1_book_24 ?_
      obtain ⟨g8, hf⟩ := so_gdE hf
      obtain ⟨rfl, rfl⟩ := so_e2 hf
      exact jr_out (so_l29 (of_decide_eq_true g8) rfl).1 (so_l29 (of_decide_eq_true g8) rfl).2 rfl
  · refine so_jE hf (fun J => ∀ (u0 : Unit), J u0 = some (res, S') → jg_ (S, S', so_oi res) kX1_book 23 [(0, .ref a0), (1, .int a1)] [.ref a0] S) (fun _u hf => ?_) (fun J32 hJ32 hf => ?_)
    · refine jr_iconst dX1_book_23 ic_0 ?_
      exact hJ2 (0 : Int32) hf
    · refine jr_if_lt (tgt := 23) dX1_book_2 rfl (fun c33 => ?_) (fun c33 => ?_)
      · have hf := so_t c33 hf
        exact hJ32 () hf
      · have hf := so_f c33 hf
        refine jr_iload_n dX1_book_5 rfl rfl ?_
        refine jr_aload_n dX1_book_6 rfl rfl jv_rr ?_
        refine jr_getI fl_X1_158_0 k_a0 (so_n26 rfl) dX1_book_7 ?_
        refine jr_icmp_gt (tgt := 23) dX1_book_10 rfl (fun c34 => ?_) (fun c34 => ?_)
        · have hf := so_t c34 hf
          exact hJ32 () hf
        · have hf := so_f c34 hf
          refine jr_iload_n dX1_book_13 rfl rfl ?_
          refine jr_bipush dX1_book_14 bp_60 ?_
          refine jr_icmp_gt (tgt := 23) dX1_book_16 rfl (fun c35 => ?_) (fun c35 => ?_)
          · have hf := so_t c35 hf
            exact hJ32 () hf
          · have hf := so_f c35 hf
            refine jr_iconst dX1_book_19 ic_1 ?_
            refine jr_goto (tgt := 24) dX1_book_20 rfl ?_
            exact hJ2 (1 : Int32) hf
