/-! printed: functions and walks -/
set_option maxRecDepth 100000
set_option linter.unusedVariables false
/- X0_book -/
abbrev kX0_book : jx_K := (cX0_book, 4, RX0, 8, (Option.some Jvm.ClassFile.FieldType.int), "book", tableOf [(0, 9, 12, 13)])
def fX0_book (a0 : Nat) (a1 : Int32) (a2 : Nat) (S : so_St) : Option (Int32 × so_St) :=
  so_b3 (fX1_book a0 a1 S) (fun r1 S2 =>
  so_gd (so_in (0 : Int32) (so_l S2 a2)) fun _ =>
  so_let (so_sL S2 a2 (0 : Int32).toNatClampNeg r1.toInt64) fun S8 =>
  some ((0 : Int32), S8))
  (fun x3 S4 =>
  if x3 % 64 = 27 then
  (some ((1 : Int32), S4))
  else
  none)
set_option maxHeartbeats 4000000 in
set_option maxRecDepth 100000 in
theorem wX0_book {res : Int32} {S' : so_St}  (a0 : Nat) (a1 : Int32) (a2 : Nat)  (S : so_St) (k_a0 : a0 % 64 ∈ [0]) (k_a2 : a2 % 64 ∈ [53]) (hf : fX0_book a0 a1 a2 S = some (res, S')) : jx_Sp 8 yX0_book (wsW_ yX0_book cX0_book 4 (Option.some Jvm.ClassFile.FieldType.int) [(0, 9, 12, 13)]) [.ref a0, .int a1, .ref a2] S (.inl (some (.int res))) S' := by
  refine jx_ofW (by decide) (so_le rfl) ?_
  show jg_ (S, S', .inl (some (.int res))) kX0_book 0 [(0, .ref a0), (1, .int a1), (2, .ref a2)] [] S
  unfold fX0_book at hf
  refine jr_aload_n dX0_book_0 rfl rfl jv_rr ?_
  refine jr_iconst dX0_book_1 ic_0 ?_
  refine jr_aload_n dX0_book_2 rfl rfl jv_rr ?_
  refine jr_iload_n dX0_book_3 rfl rfl ?_
  rcases so_b3E hf with ⟨r1, S2, h5, hf⟩ | ⟨x3, S4, h5, hf⟩
  · refine jr_callM (st := [.int (0 : Int32), .ref a2]) lk_X0_21_0 (wX1_book a0 a1 S k_a0 h5) k_a0 rfl rfl rfl (so_le rfl) (so_le rfl) dX0_book_4 ?_
    refine jr_i2l dX0_book_7 ?_
    obtain ⟨g7, hf⟩ := so_gdE hf
    refine jr_lastore (so_m1 k_a2) (so_inE g7) dX0_book_8 ?_
    refine so_let_e hf (fun S8 hf => ?_)
    refine jr_goto (tgt := 15) dX0_book_9 rfl ?_
    refine jr_iconst dX0_book_15 ic_0 ?_
    obtain ⟨rfl, rfl⟩ := so_e2 hf
    exact jr_iret rfl rfl dX0_book_16
  · refine jr_callMX (st := [.int (0 : Int32), .ref a2]) lk_X0_21_0 (wX1_book a0 a1 S k_a0 h5) k_a0 rfl rfl rfl (so_le rfl) (so_le rfl) dX0_book_4 ?_
    by_cases c6 : x3 % 64 = 27
    · have hf := so_t c6 hf
      refine jr_catch (by rw [c6]; decide) (by rw [c6]; decide) [] ⟨0, 9, 12, 13⟩ [] rfl (fun _ h => by cases h) rfl (by decide) q863 (by rw [c6]; exact q181) ?_
      refine jr_astore_n (lv' := [(0, .ref a0), (1, .int a1), (2, .ref a2), (3, .ref x3)]) dX0_book_12 rfl (so_le rfl) jv_rr rfl ?_
      refine jr_iconst dX0_book_13 ic_1 ?_
      obtain ⟨rfl, rfl⟩ := so_e2 hf
      exact jr_iret rfl rfl dX0_book_14
    · have hf := so_f c6 hf
      exact so_no hf

/- X1_isIn -/
abbrev kX1_isIn : jx_K := (cX1_isIn, 3, RX1, 0, (Option.some Jvm.ClassFile.FieldType.boolean), "isIn", [])
def fX1_isIn (a0 : Int32) (a1 : Int32) (a2 : Int32) : Int32 :=
  if a0 < a1 then
  ((0 : Int32))
  else
  (if a2 < a0 then
  ((0 : Int32))
  else
  ((1 : Int32)))
set_option maxHeartbeats 4000000 in
set_option maxRecDepth 100000 in
theorem wX1_isIn {res : Int32}  (a0 : Int32) (a1 : Int32) (a2 : Int32)  (S : so_St)  (hf : fX1_isIn a0 a1 a2 = res) : jx_Sp 0 yX1_isIn (ws_ yX1_isIn cX1_isIn 3 (Option.some Jvm.ClassFile.FieldType.boolean)) [.int a0, .int a1, .int a2] S (.inl (some (.int res))) S := by
  refine jx_of (plainFor_of_name (by decide)) (so_le rfl) ?_
  show jg_ (S, S, .inl (some (.int res))) kX1_isIn 0 [(0, .int a0), (1, .int a1), (2, .int a2)] [] S
  unfold fX1_isIn at hf
  refine jr_iload_n dX1_isIn_0 rfl rfl ?_
  refine jr_iload_n dX1_isIn_1 rfl rfl ?_
  refine jr_icmp_lt (tgt := 14) dX1_isIn_2 rfl (fun c1 => ?_) (fun c1 => ?_)
  · have hf := so_t c1 hf
    refine jr_iconst dX1_isIn_14 ic_0 ?_
    obtain rfl := hf
    exact jr_iret rfl rfl dX1_isIn_15
  · have hf := so_f c1 hf
    refine jr_iload_n dX1_isIn_5 rfl rfl ?_
    refine jr_iload_n dX1_isIn_6 rfl rfl ?_
    refine jr_icmp_gt (tgt := 14) dX1_isIn_7 rfl (fun c2 => ?_) (fun c2 => ?_)
    · have hf := so_t c2 hf
      refine jr_iconst dX1_isIn_14 ic_0 ?_
      obtain rfl := hf
      exact jr_iret rfl rfl dX1_isIn_15
    · have hf := so_f c2 hf
      refine jr_iconst dX1_isIn_10 ic_1 ?_
      refine jr_goto (tgt := 15) dX1_isIn_11 rfl ?_
      obtain rfl := hf
      exact jr_iret rfl rfl dX1_isIn_15

/- X1_fighting -/
abbrev kX1_fighting : jx_K := (cX1_fighting, 3, RX1, 6, (Option.some Jvm.ClassFile.FieldType.int), "fighting", [])
def LX1_fighting_4 (f0 : Nat) (S : so_St) : Nat → Int32 → Int32 → Option Int32
  | 0, _, _ => none
  | n + 1, v1, v2 =>
    (fX1_pianos f0 S).bind fun r4 =>
    if r4 ≤ v2 then
    (some v1)
    else
    ((so_rk (so_R S f0 5) [22]).bind fun p6 =>
    (fX7_fights p6 v2 S).bind fun r9 =>
    so_j (κ := Int32 → Option Int32) (ρ := Option Int32) (fun (v10 : Int32) =>
    LX1_fighting_4 f0 S n (v1 ||| v10) (v2 + (1 : Int32)))
    (fun J11 =>
    if r9 = (0 : Int32) then
    (J11 (0 : Int32))
    else
    (J11 ((1 : Int32) <<< (v2 &&& 31)))))
set_option maxHeartbeats 4000000 in
set_option maxRecDepth 100000 in
theorem wX1_fighting_4 {res : Int32}   (f0 : Nat)  (S : so_St) (k_f0 : f0 % 64 ∈ [0]) : ∀ (n : Nat) (v1 : Int32) (v2 : Int32), LX1_fighting_4 f0 S n v1 v2 = some res → jg_ (S, S, .inl (some (.int res))) kX1_fighting 4 [(0, .ref f0), (1, .int v1), (2, .int v2)] [] S := by
  intro n
  induction n with
  | zero =>
    intro v1 v2 hf
    exact so_no hf
  | succ n ih =>
    intro v1 v2 hf
    rw [LX1_fighting_4] at hf
    refine jr_iload_n dX1_fighting_4 rfl rfl ?_
    refine jr_aload_n dX1_fighting_5 rfl rfl jv_rr ?_
    obtain ⟨r4, h3, hf⟩ := so_b hf
    refine jr_callM (st := [.int v2]) lk_X1_156_0 (wX1_pianos f0 S k_f0 h3) k_f0 rfl rfl rfl (so_le rfl) (so_le rfl) dX1_fighting_6 ?_
    refine jr_icmp_ge (tgt := 39) dX1_fighting_9 rfl (fun c5 => ?_) (fun c5 => ?_)
    · have hf := so_t c5 hf
      refine jr_iload_n dX1_fighting_39 rfl rfl ?_
      obtain rfl := so_e1 hf
      exact jr_iret rfl rfl dX1_fighting_40
    · have hf := so_f c5 hf
      refine jr_iload_n dX1_fighting_12 rfl rfl ?_
      refine jr_aload_n dX1_fighting_13 rfl rfl jv_rr ?_
      refine jr_getR fl_X1_49_0 k_f0 (so_n26 rfl) dX1_fighting_14 ?_
      obtain ⟨p6, h7, hf⟩ := so_b hf
      obtain ⟨h7, k_p6⟩ := so_rk_s h7
      refine jr_rf h7 ?_
      refine jr_iload_n dX1_fighting_17 rfl rfl ?_
      obtain ⟨r9, h8, hf⟩ := so_b hf
      refine jr_callM (st := [.int v1]) lk_X1_242_22 (wX7_fights p6 v2 S k_p6 h8) k_p6 rfl rfl rfl (so_le rfl) (so_le rfl) dX1_fighting_18 ?_
      refine so_jE hf (fun J => ∀ (v10 : Int32), J v10 = some res → jg_ (S, S, .inl (some (.int res))) kX1_fighting 31 [(0, .ref f0), (2, .int v2)] [.int v10, .int v1] S) (fun v10 hf => ?_) (fun J11 hJ11 hf => ?_)
      · refine jr_ior dX1_fighting_31 ?_
        refine jr_istore_n (lv' := [(0, .ref f0), (1, .int (v1 ||| v10)), (2, .int v2)]) dX1_fighting_32 rfl (so_le rfl) rfl ?_
        refine jr_iinc (v := v2 + (1 : Int32)) (lv' := [(0, .ref f0), (1, .int (v1 ||| v10)), (2, .int (v2 + (1 : Int32)))]) dX1_fighting_33 rfl rfl (so_le rfl) rfl ?_
        refine jr_goto (tgt := 4) dX1_fighting_36 rfl ?_
        exact ih (v1 ||| v10) (v2 + (1 : Int32)) hf
      · refine jr_if_ne (tgt := 28) dX1_fighting_21 rfl (fun c12 => ?_) (fun c12 => ?_)
        · have hf := so_f c12 hf
          refine jr_iconst dX1_fighting_28 ic_1 ?_
          refine jr_iload_n dX1_fighting_29 rfl rfl ?_
          refine jr_ishl dX1_fighting_30 ?_
          refine jr_sub [0, 2] rfl ?_
          exact hJ11 ((1 : Int32) <<< (v2 &&& 31)) hf
        · have hf := so_t c12 hf
          refine jr_iconst dX1_fighting_24 ic_0 ?_
          refine jr_goto (tgt := 31) dX1_fighting_25 rfl ?_
          refine jr_sub [0, 2] rfl ?_
          exact hJ11 (0 : Int32) hf
def fX1_fighting (a0 : Nat) (S : so_St) : Option Int32 :=
  LX1_fighting_4 a0 S so_N (0 : Int32) (0 : Int32)
set_option maxHeartbeats 4000000 in
set_option maxRecDepth 100000 in
theorem wX1_fighting {res : Int32}  (a0 : Nat)  (S : so_St) (k_a0 : a0 % 64 ∈ [0]) (hf : fX1_fighting a0 S = some res) : jx_Sp 6 yX1_fighting (ws_ yX1_fighting cX1_fighting 3 (Option.some Jvm.ClassFile.FieldType.int)) [.ref a0] S (.inl (some (.int res))) S := by
  refine jx_of (plainFor_of_name (by decide)) (so_le rfl) ?_
  show jg_ (S, S, .inl (some (.int res))) kX1_fighting 0 [(0, .ref a0)] [] S
  unfold fX1_fighting at hf
  refine jr_iconst dX1_fighting_0 ic_0 ?_
  refine jr_istore_n (lv' := [(0, .ref a0), (1, .int (0 : Int32))]) dX1_fighting_1 rfl (so_le rfl) rfl ?_
  refine jr_iconst dX1_fighting_2 ic_0 ?_
  refine jr_istore_n (lv' := [(0, .ref a0), (1, .int (0 : Int32)), (2, .int (0 : Int32))]) dX1_fighting_3 rfl (so_le rfl) rfl ?_
  refine wX1_fighting_4 a0 S k_a0 so_N (0 : Int32) (0 : Int32) hf

/- X7_is -/
abbrev kX7_is : jx_K := (cX7_is, 4, RX7, 0, (Option.some Jvm.ClassFile.FieldType.int), "is", [])
def LX7_is_4 (f0 : Nat) (f1 : Int32) (S : so_St) : Nat → Int32 → Int32 → Option Int32
  | 0, _, _ => none
  | n + 1, v1, v2 =>
    if (10 : Int32) ≤ v2 then
    (some v1)
    else
    ((so_rk (so_R S f0 3) [50]).bind fun p4 =>
    so_gd (so_in (((10 : Int32) * f1) + v2) (so_l S p4)) fun _ =>
    (so_rk (so_R S f0 3) [50]).bind fun p7 =>
    so_gd (so_in (((10 : Int32) * f1) + v1) (so_l S p7)) fun _ =>
    so_j (κ := Int32 → Option Int32) (ρ := Option Int32) (fun (v10 : Int32) =>
    LX7_is_4 f0 f1 S n v10 (v2 + (1 : Int32)))
    (fun J11 =>
    if (so_I S p4 (((10 : Int32) * f1) + v2).toNatClampNeg) ≤ (so_I S p7 (((10 : Int32) * f1) + v1).toNatClampNeg) then
    (J11 v1)
    else
    (J11 v2)))
set_option maxHeartbeats 4000000 in
set_option maxRecDepth 100000 in
theorem wX7_is_4 {res : Int32}   (f0 : Nat) (f1 : Int32)  (S : so_St) (k_f0 : f0 % 64 ∈ [22]) : ∀ (n : Nat) (v1 : Int32) (v2 : Int32), LX7_is_4 f0 f1 S n v1 v2 = some res → jg_ (S, S, .inl (some (.int res))) kX7_is 4 [(0, .ref f0), (1, .int f1), (2, .int v1), (3, .int v2)] [] S := by
  intro n
  induction n with
  | zero =>
    intro v1 v2 hf
    exact so_no hf
  | succ n ih =>
    intro v1 v2 hf
    rw [LX7_is_4] at hf
    refine jr_iload_n dX7_is_4 rfl rfl ?_
    refine jr_bipush dX7_is_5 bp_10 ?_
    refine jr_icmp_ge (tgt := 43) dX7_is_7 rfl (fun c3 => ?_) (fun c3 => ?_)
    · have hf := so_t c3 hf
      refine jr_iload_n dX7_is_43 rfl rfl ?_
      obtain rfl := so_e1 hf
      exact jr_iret rfl rfl dX7_is_44
    · have hf := so_f c3 hf
      refine jr_aload_n dX7_is_10 rfl rfl jv_rr ?_
      refine jr_getR fl_X7_25_22 k_f0 (so_n26 rfl) dX7_is_11 ?_
      obtain ⟨p4, h5, hf⟩ := so_b hf
      obtain ⟨h5, k_p4⟩ := so_rk_s h5
      refine jr_rf h5 ?_
      refine jr_bipush dX7_is_14 bp_10 ?_
      refine jr_iload_n dX7_is_16 rfl rfl ?_
      refine jr_imul dX7_is_17 ?_
      refine jr_iload_n dX7_is_18 rfl rfl ?_
      refine jr_iadd dX7_is_19 ?_
      obtain ⟨g6, hf⟩ := so_gdE hf
      refine jr_iaload (so_m1 k_p4) (so_inE g6) dX7_is_20 ?_
      refine jr_aload_n dX7_is_21 rfl rfl jv_rr ?_
      refine jr_getR fl_X7_25_22 k_f0 (so_n26 rfl) dX7_is_22 ?_
      obtain ⟨p7, h8, hf⟩ := so_b hf
      obtain ⟨h8, k_p7⟩ := so_rk_s h8
      refine jr_rf h8 ?_
      refine jr_bipush dX7_is_25 bp_10 ?_
      refine jr_iload_n dX7_is_27 rfl rfl ?_
      refine jr_imul dX7_is_28 ?_
      refine jr_iload_n dX7_is_29 rfl rfl ?_
      refine jr_iadd dX7_is_30 ?_
      obtain ⟨g9, hf⟩ := so_gdE hf
      refine jr_iaload (so_m1 k_p7) (so_inE g9) dX7_is_31 ?_
      refine so_jE hf (fun J => ∀ (v10 : Int32), J v10 = some res → jg_ (S, S, .inl (some (.int res))) kX7_is 37 [(0, .ref f0), (1, .int f1), (2, .int v10), (3, .int v2)] [] S) (fun v10 hf => ?_) (fun J11 hJ11 hf => ?_)
      · refine jr_iinc (v := v2 + (1 : Int32)) (lv' := [(0, .ref f0), (1, .int f1), (2, .int v10), (3, .int (v2 + (1 : Int32)))]) dX7_is_37 rfl rfl (so_le rfl) rfl ?_
        refine jr_goto (tgt := 4) dX7_is_40 rfl ?_
        exact ih v10 (v2 + (1 : Int32)) hf
      · refine jr_icmp_le (tgt := 37) dX7_is_32 rfl (fun c12 => ?_) (fun c12 => ?_)
        · have hf := so_t c12 hf
          exact hJ11 v1 hf
        · have hf := so_f c12 hf
          refine jr_iload_n dX7_is_35 rfl rfl ?_
          refine jr_istore_n (lv' := [(0, .ref f0), (1, .int f1), (2, .int v2), (3, .int v2)]) dX7_is_36 rfl (so_le rfl) rfl ?_
          exact hJ11 v2 hf
def fX7_is (a0 : Nat) (a1 : Int32) (S : so_St) : Option Int32 :=
  LX7_is_4 a0 a1 S so_N (0 : Int32) (1 : Int32)
set_option maxHeartbeats 4000000 in
set_option maxRecDepth 100000 in
theorem wX7_is {res : Int32}  (a0 : Nat) (a1 : Int32)  (S : so_St) (k_a0 : a0 % 64 ∈ [22]) (hf : fX7_is a0 a1 S = some res) : jx_Sp 0 yX7_is (ws_ yX7_is cX7_is 4 (Option.some Jvm.ClassFile.FieldType.int)) [.ref a0, .int a1] S (.inl (some (.int res))) S := by
  refine jx_of (plainFor_of_name (by decide)) (so_le rfl) ?_
  show jg_ (S, S, .inl (some (.int res))) kX7_is 0 [(0, .ref a0), (1, .int a1)] [] S
  unfold fX7_is at hf
  refine jr_iconst dX7_is_0 ic_0 ?_
  refine jr_istore_n (lv' := [(0, .ref a0), (1, .int a1), (2, .int (0 : Int32))]) dX7_is_1 rfl (so_le rfl) rfl ?_
  refine jr_iconst dX7_is_2 ic_1 ?_
  refine jr_istore_n (lv' := [(0, .ref a0), (1, .int a1), (2, .int (0 : Int32)), (3, .int (1 : Int32))]) dX7_is_3 rfl (so_le rfl) rfl ?_
  refine wX7_is_4 a0 a1 S k_a0 so_N (0 : Int32) (1 : Int32) hf

/- X7_thoseThatAre -/
abbrev kX7_thoseThatAre : jx_K := (cX7_thoseThatAre, 4, RX7, 1, (Option.some Jvm.ClassFile.FieldType.int), "thoseThatAre", [])
def LX7_thoseThatAre_4 (f0 : Nat) (f1 : Nat) (S : so_St) : Nat → Int32 → Int32 → Option Int32
  | 0, _, _ => none
  | n + 1, v1, v2 =>
    (so_rk (so_R S f0 10) [0]).bind fun p3 =>
    (so_rk (so_R S p3 0) [1]).bind fun p5 =>
    if (so_I S p5 6) ≤ v2 then
    (some v1)
    else
    ((fX7_is f0 v2 S).bind fun r9 =>
    so_gd (so_in v2 (so_l S f1)) fun _ =>
    so_j (κ := Int32 → Option Int32) (ρ := Option Int32) (fun (v11 : Int32) =>
    LX7_thoseThatAre_4 f0 f1 S n (v1 ||| v11) (v2 + (1 : Int32)))
    (fun J12 =>
    if r9 = (so_I S f1 v2.toNatClampNeg) then
    (J12 ((1 : Int32) <<< (v2 &&& 31)))
    else
    (J12 (0 : Int32))))
set_option maxHeartbeats 4000000 in
set_option maxRecDepth 100000 in
theorem wX7_thoseThatAre_4 {res : Int32}   (f0 : Nat) (f1 : Nat)  (S : so_St) (k_f0 : f0 % 64 ∈ [22]) (k_f1 : f1 % 64 ∈ [50]) : ∀ (n : Nat) (v1 : Int32) (v2 : Int32), LX7_thoseThatAre_4 f0 f1 S n v1 v2 = some res → jg_ (S, S, .inl (some (.int res))) kX7_thoseThatAre 4 [(0, .ref f0), (1, .ref f1), (2, .int v1), (3, .int v2)] [] S := by
  intro n
  induction n with
  | zero =>
    intro v1 v2 hf
    exact so_no hf
  | succ n ih =>
    intro v1 v2 hf
    rw [LX7_thoseThatAre_4] at hf
    refine jr_iload_n dX7_thoseThatAre_4 rfl rfl ?_
    refine jr_aload_n dX7_thoseThatAre_5 rfl rfl jv_rr ?_
    refine jr_getR fl_X7_3_22 k_f0 (so_n26 rfl) dX7_thoseThatAre_6 ?_
    obtain ⟨p3, h4, hf⟩ := so_b hf
    obtain ⟨h4, k_p3⟩ := so_rk_s h4
    refine jr_rf h4 ?_
    refine jr_getR fl_X7_31_0 k_p3 (so_n26 rfl) dX7_thoseThatAre_9 ?_
    obtain ⟨p5, h6, hf⟩ := so_b hf
    obtain ⟨h6, k_p5⟩ := so_rk_s h6
    refine jr_rf h6 ?_
    refine jr_getI fl_X7_35_1 k_p5 (so_n26 rfl) dX7_thoseThatAre_12 ?_
    refine jr_icmp_ge (tgt := 45) dX7_thoseThatAre_15 rfl (fun c7 => ?_) (fun c7 => ?_)
    · have hf := so_t c7 hf
      refine jr_iload_n dX7_thoseThatAre_45 rfl rfl ?_
      obtain rfl := so_e1 hf
      exact jr_iret rfl rfl dX7_thoseThatAre_46
    · have hf := so_f c7 hf
      refine jr_iload_n dX7_thoseThatAre_18 rfl rfl ?_
      refine jr_aload_n dX7_thoseThatAre_19 rfl rfl jv_rr ?_
      refine jr_iload_n dX7_thoseThatAre_20 rfl rfl ?_
      obtain ⟨r9, h8, hf⟩ := so_b hf
      refine jr_callM (st := [.int v1]) lk_X7_111_22 (wX7_is f0 v2 S k_f0 h8) k_f0 rfl rfl rfl (so_le rfl) (so_le rfl) dX7_thoseThatAre_21 ?_
      refine jr_aload_n dX7_thoseThatAre_24 rfl rfl jv_rr ?_
      refine jr_iload_n dX7_thoseThatAre_25 rfl rfl ?_
      obtain ⟨g10, hf⟩ := so_gdE hf
      refine jr_iaload (so_m1 k_f1) (so_inE g10) dX7_thoseThatAre_26 ?_
      refine so_jE hf (fun J => ∀ (v11 : Int32), J v11 = some res → jg_ (S, S, .inl (some (.int res))) kX7_thoseThatAre 37 [(0, .ref f0), (1, .ref f1), (3, .int v2)] [.int v11, .int v1] S) (fun v11 hf => ?_) (fun J12 hJ12 hf => ?_)
      · refine jr_ior dX7_thoseThatAre_37 ?_
        refine jr_istore_n (lv' := [(0, .ref f0), (1, .ref f1), (2, .int (v1 ||| v11)), (3, .int v2)]) dX7_thoseThatAre_38 rfl (so_le rfl) rfl ?_
        refine jr_iinc (v := v2 + (1 : Int32)) (lv' := [(0, .ref f0), (1, .ref f1), (2, .int (v1 ||| v11)), (3, .int (v2 + (1 : Int32)))]) dX7_thoseThatAre_39 rfl rfl (so_le rfl) rfl ?_
        refine jr_goto (tgt := 4) dX7_thoseThatAre_42 rfl ?_
        exact ih (v1 ||| v11) (v2 + (1 : Int32)) hf
      · refine jr_icmp_ne (tgt := 36) dX7_thoseThatAre_27 rfl (fun c13 => ?_) (fun c13 => ?_)
        · have hf := so_f c13 hf
          refine jr_iconst dX7_thoseThatAre_36 ic_0 ?_
          refine jr_sub [0, 1, 3] rfl ?_
          exact hJ12 (0 : Int32) hf
        · have hf := so_t c13 hf
          refine jr_iconst dX7_thoseThatAre_30 ic_1 ?_
          refine jr_iload_n dX7_thoseThatAre_31 rfl rfl ?_
          refine jr_ishl dX7_thoseThatAre_32 ?_
          refine jr_goto (tgt := 37) dX7_thoseThatAre_33 rfl ?_
          refine jr_sub [0, 1, 3] rfl ?_
          exact hJ12 ((1 : Int32) <<< (v2 &&& 31)) hf
def fX7_thoseThatAre (a0 : Nat) (a1 : Nat) (S : so_St) : Option Int32 :=
  LX7_thoseThatAre_4 a0 a1 S so_N (0 : Int32) (0 : Int32)
set_option maxHeartbeats 4000000 in
set_option maxRecDepth 100000 in
theorem wX7_thoseThatAre {res : Int32}  (a0 : Nat) (a1 : Nat)  (S : so_St) (k_a0 : a0 % 64 ∈ [22]) (k_a1 : a1 % 64 ∈ [50]) (hf : fX7_thoseThatAre a0 a1 S = some res) : jx_Sp 1 yX7_thoseThatAre (ws_ yX7_thoseThatAre cX7_thoseThatAre 4 (Option.some Jvm.ClassFile.FieldType.int)) [.ref a0, .ref a1] S (.inl (some (.int res))) S := by
  refine jx_of (plainFor_of_name (by decide)) (so_le rfl) ?_
  show jg_ (S, S, .inl (some (.int res))) kX7_thoseThatAre 0 [(0, .ref a0), (1, .ref a1)] [] S
  unfold fX7_thoseThatAre at hf
  refine jr_iconst dX7_thoseThatAre_0 ic_0 ?_
  refine jr_istore_n (lv' := [(0, .ref a0), (1, .ref a1), (2, .int (0 : Int32))]) dX7_thoseThatAre_1 rfl (so_le rfl) rfl ?_
  refine jr_iconst dX7_thoseThatAre_2 ic_0 ?_
  refine jr_istore_n (lv' := [(0, .ref a0), (1, .ref a1), (2, .int (0 : Int32)), (3, .int (0 : Int32))]) dX7_thoseThatAre_3 rfl (so_le rfl) rfl ?_
  refine wX7_thoseThatAre_4 a0 a1 S k_a0 k_a1 so_N (0 : Int32) (0 : Int32) hf

/- X1_standing -/
abbrev kX1_standing : jx_K := (cX1_standing, 3, RX1, 2, (Option.some Jvm.ClassFile.FieldType.int), "standing", [])
def LX1_standing_4 (f0 : Nat) (S : so_St) : Nat → Int32 → Int32 → Option Int32
  | 0, _, _ => none
  | n + 1, v1, v2 =>
    (fX1_pianos f0 S).bind fun r4 =>
    if r4 ≤ v2 then
    (some v1)
    else
    ((so_rk (so_R S f0 5) [22]).bind fun p6 =>
    (so_rk (so_R S p6 0) [50]).bind fun p8 =>
    so_gd (so_in v2 (so_l S p8)) fun _ =>
    so_j (κ := Int32 → Option Int32) (ρ := Option Int32) (fun (v11 : Int32) =>
    LX1_standing_4 f0 S n (v1 ||| v11) (v2 + (1 : Int32)))
    (fun J12 =>
    if (so_I S p8 v2.toNatClampNeg) = (-1 : Int32) then
    (J12 (0 : Int32))
    else
    (J12 ((1 : Int32) <<< (v2 &&& 31)))))
set_option maxHeartbeats 4000000 in
set_option maxRecDepth 100000 in
theorem wX1_standing_4 {res : Int32}   (f0 : Nat)  (S : so_St) (k_f0 : f0 % 64 ∈ [0]) : ∀ (n : Nat) (v1 : Int32) (v2 : Int32), LX1_standing_4 f0 S n v1 v2 = some res → jg_ (S, S, .inl (some (.int res))) kX1_standing 4 [(0, .ref f0), (1, .int v1), (2, .int v2)] [] S := by
  intro n
  induction n with
  | zero =>
    intro v1 v2 hf
    exact so_no hf
  | succ n ih =>
    intro v1 v2 hf
    rw [LX1_standing_4] at hf
    refine jr_iload_n dX1_standing_4 rfl rfl ?_
    refine jr_aload_n dX1_standing_5 rfl rfl jv_rr ?_
    obtain ⟨r4, h3, hf⟩ := so_b hf
    refine jr_callM (st := [.int v2]) lk_X1_156_0 (wX1_pianos f0 S k_f0 h3) k_f0 rfl rfl rfl (so_le rfl) (so_le rfl) dX1_standing_6 ?_
    refine jr_icmp_ge (tgt := 41) dX1_standing_9 rfl (fun c5 => ?_) (fun c5 => ?_)
    · have hf := so_t c5 hf
      refine jr_iload_n dX1_standing_41 rfl rfl ?_
      obtain rfl := so_e1 hf
      exact jr_iret rfl rfl dX1_standing_42
    · have hf := so_f c5 hf
      refine jr_iload_n dX1_standing_12 rfl rfl ?_
      refine jr_aload_n dX1_standing_13 rfl rfl jv_rr ?_
      refine jr_getR fl_X1_49_0 k_f0 (so_n26 rfl) dX1_standing_14 ?_
      obtain ⟨p6, h7, hf⟩ := so_b hf
      obtain ⟨h7, k_p6⟩ := so_rk_s h7
      refine jr_rf h7 ?_
      refine jr_getR fl_X1_239_22 k_p6 (so_n26 rfl) dX1_standing_17 ?_
      obtain ⟨p8, h9, hf⟩ := so_b hf
      obtain ⟨h9, k_p8⟩ := so_rk_s h9
      refine jr_rf h9 ?_
      refine jr_iload_n dX1_standing_20 rfl rfl ?_
      obtain ⟨g10, hf⟩ := so_gdE hf
      refine jr_iaload (so_m1 k_p8) (so_inE g10) dX1_standing_21 ?_
      refine jr_iconst dX1_standing_22 ic_m1 ?_
      refine so_jE hf (fun J => ∀ (v11 : Int32), J v11 = some res → jg_ (S, S, .inl (some (.int res))) kX1_standing 33 [(0, .ref f0), (2, .int v2)] [.int v11, .int v1] S) (fun v11 hf => ?_) (fun J12 hJ12 hf => ?_)
      · refine jr_ior dX1_standing_33 ?_
        refine jr_istore_n (lv' := [(0, .ref f0), (1, .int (v1 ||| v11)), (2, .int v2)]) dX1_standing_34 rfl (so_le rfl) rfl ?_
        refine jr_iinc (v := v2 + (1 : Int32)) (lv' := [(0, .ref f0), (1, .int (v1 ||| v11)), (2, .int (v2 + (1 : Int32)))]) dX1_standing_35 rfl rfl (so_le rfl) rfl ?_
        refine jr_goto (tgt := 4) dX1_standing_38 rfl ?_
        exact ih (v1 ||| v11) (v2 + (1 : Int32)) hf
      · refine jr_icmp_ne (tgt := 30) dX1_standing_23 rfl (fun c13 => ?_) (fun c13 => ?_)
        · have hf := so_f c13 hf
          refine jr_iconst dX1_standing_30 ic_1 ?_
          refine jr_iload_n dX1_standing_31 rfl rfl ?_
          refine jr_ishl dX1_standing_32 ?_
          refine jr_sub [0, 2] rfl ?_
          exact hJ12 ((1 : Int32) <<< (v2 &&& 31)) hf
        · have hf := so_t c13 hf
          refine jr_iconst dX1_standing_26 ic_0 ?_
          refine jr_goto (tgt := 33) dX1_standing_27 rfl ?_
          refine jr_sub [0, 2] rfl ?_
          exact hJ12 (0 : Int32) hf
def fX1_standing (a0 : Nat) (S : so_St) : Option Int32 :=
  LX1_standing_4 a0 S so_N (0 : Int32) (0 : Int32)
set_option maxHeartbeats 4000000 in
set_option maxRecDepth 100000 in
theorem wX1_standing {res : Int32}  (a0 : Nat)  (S : so_St) (k_a0 : a0 % 64 ∈ [0]) (hf : fX1_standing a0 S = some res) : jx_Sp 2 yX1_standing (ws_ yX1_standing cX1_standing 3 (Option.some Jvm.ClassFile.FieldType.int)) [.ref a0] S (.inl (some (.int res))) S := by
  refine jx_of (plainFor_of_name (by decide)) (so_le rfl) ?_
  show jg_ (S, S, .inl (some (.int res))) kX1_standing 0 [(0, .ref a0)] [] S
  unfold fX1_standing at hf
  refine jr_iconst dX1_standing_0 ic_0 ?_
  refine jr_istore_n (lv' := [(0, .ref a0), (1, .int (0 : Int32))]) dX1_standing_1 rfl (so_le rfl) rfl ?_
  refine jr_iconst dX1_standing_2 ic_0 ?_
  refine jr_istore_n (lv' := [(0, .ref a0), (1, .int (0 : Int32)), (2, .int (0 : Int32))]) dX1_standing_3 rfl (so_le rfl) rfl ?_
  refine wX1_standing_4 a0 S k_a0 so_N (0 : Int32) (0 : Int32) hf

/- X7_all -/
abbrev kX7_all : jx_K := (cX7_all, 3, RX7, 0, (Option.some Jvm.ClassFile.FieldType.int), "all", [])
def LX7_all_4 (f0 : Nat) (S : so_St) : Nat → Int32 → Int32 → Option Int32
  | 0, _, _ => none
  | n + 1, v1, v2 =>
    if (80 : Int32) ≤ v2 then
    (some v1)
    else
    ((so_rk (so_R S f0 3) [50]).bind fun p4 =>
    so_gd (so_in v2 (so_l S p4)) fun _ =>
    LX7_all_4 f0 S n (v1 + (so_I S p4 v2.toNatClampNeg)) (v2 + (1 : Int32)))
set_option maxHeartbeats 4000000 in
set_option maxRecDepth 100000 in
theorem wX7_all_4 {res : Int32}   (f0 : Nat)  (S : so_St) (k_f0 : f0 % 64 ∈ [22]) : ∀ (n : Nat) (v1 : Int32) (v2 : Int32), LX7_all_4 f0 S n v1 v2 = some res → jg_ (S, S, .inl (some (.int res))) kX7_all 4 [(0, .ref f0), (1, .int v1), (2, .int v2)] [] S := by
  intro n
  induction n with
  | zero =>
    intro v1 v2 hf
    exact so_no hf
  | succ n ih =>
    intro v1 v2 hf
    rw [LX7_all_4] at hf
    refine jr_iload_n dX7_all_4 rfl rfl ?_
    refine jr_bipush dX7_all_5 bp_80 ?_
    refine jr_icmp_ge (tgt := 25) dX7_all_7 rfl (fun c3 => ?_) (fun c3 => ?_)
    · have hf := so_t c3 hf
      refine jr_iload_n dX7_all_25 rfl rfl ?_
      obtain rfl := so_e1 hf
      exact jr_iret rfl rfl dX7_all_26
    · have hf := so_f c3 hf
      refine jr_iload_n dX7_all_10 rfl rfl ?_
      refine jr_aload_n dX7_all_11 rfl rfl jv_rr ?_
      refine jr_getR fl_X7_25_22 k_f0 (so_n26 rfl) dX7_all_12 ?_
      obtain ⟨p4, h5, hf⟩ := so_b hf
      obtain ⟨h5, k_p4⟩ := so_rk_s h5
      refine jr_rf h5 ?_
      refine jr_iload_n dX7_all_15 rfl rfl ?_
      obtain ⟨g6, hf⟩ := so_gdE hf
      refine jr_iaload (so_m1 k_p4) (so_inE g6) dX7_all_16 ?_
      refine jr_iadd dX7_all_17 ?_
      refine jr_istore_n (lv' := [(0, .ref f0), (1, .int (v1 + (so_I S p4 v2.toNatClampNeg))), (2, .int v2)]) dX7_all_18 rfl (so_le rfl) rfl ?_
      refine jr_iinc (v := v2 + (1 : Int32)) (lv' := [(0, .ref f0), (1, .int (v1 + (so_I S p4 v2.toNatClampNeg))), (2, .int (v2 + (1 : Int32)))]) dX7_all_19 rfl rfl (so_le rfl) rfl ?_
      refine jr_goto (tgt := 4) dX7_all_22 rfl ?_
      exact ih (v1 + (so_I S p4 v2.toNatClampNeg)) (v2 + (1 : Int32)) hf
def fX7_all (a0 : Nat) (S : so_St) : Option Int32 :=
  LX7_all_4 a0 S so_N (0 : Int32) (0 : Int32)
set_option maxHeartbeats 4000000 in
set_option maxRecDepth 100000 in
theorem wX7_all {res : Int32}  (a0 : Nat)  (S : so_St) (k_a0 : a0 % 64 ∈ [22]) (hf : fX7_all a0 S = some res) : jx_Sp 0 yX7_all (ws_ yX7_all cX7_all 3 (Option.some Jvm.ClassFile.FieldType.int)) [.ref a0] S (.inl (some (.int res))) S := by
  refine jx_of (plainFor_of_name (by decide)) (so_le rfl) ?_
  show jg_ (S, S, .inl (some (.int res))) kX7_all 0 [(0, .ref a0)] [] S
  unfold fX7_all at hf
  refine jr_iconst dX7_all_0 ic_0 ?_
  refine jr_istore_n (lv' := [(0, .ref a0), (1, .int (0 : Int32))]) dX7_all_1 rfl (so_le rfl) rfl ?_
  refine jr_iconst dX7_all_2 ic_0 ?_
  refine jr_istore_n (lv' := [(0, .ref a0), (1, .int (0 : Int32)), (2, .int (0 : Int32))]) dX7_all_3 rfl (so_le rfl) rfl ?_
  refine wX7_all_4 a0 S k_a0 so_N (0 : Int32) (0 : Int32) hf

/- X1_told -/
abbrev kX1_told : jx_K := (cX1_told, 2, RX1, 7, (Option.some Jvm.ClassFile.FieldType.int), "told", [])
def fX1_told (a0 : Nat) (a1 : Int32) (S : so_St) : Option ((Int32 ⊕ Nat) × so_St) :=
  so_b3 (fX1_need a0 (fX1_isIn a1 (0 : Int32) (10 : Int32)) S) (fun r1 S2 =>
  if a1 = (0 : Int32) then
  ((so_rk (so_R S2 a0 0) [1]).bind fun p8 =>
  some (.inl (so_I S2 p8 6), S2))
  else
  if a1 = (1 : Int32) then
  ((so_rk (so_R S2 a0 0) [1]).bind fun p11 =>
  some (.inl (so_I S2 p11 7), S2))
  else
  if a1 = (2 : Int32) then
  ((fX1_pianos a0 S2).bind fun r15 =>
  some (.inl r15, S2))
  else
  if a1 = (3 : Int32) then
  ((so_rk (so_R S2 a0 5) [22]).bind fun p17 =>
  some (.inl (so_I S2 p17 6), S2))
  else
  if a1 = (4 : Int32) then
  ((so_rk (so_R S2 a0 5) [22]).bind fun p20 =>
  some (.inl (so_I S2 p20 5), S2))
  else
  if a1 = (5 : Int32) then
  ((fX1_standing a0 S2).bind fun r24 =>
  some (.inl r24, S2))
  else
  if a1 = (6 : Int32) then
  ((so_rk (so_R S2 a0 5) [22]).bind fun p26 =>
  (so_rk (so_R S2 a0 0) [1]).bind fun p28 =>
  (so_rk (so_R S2 p28 1) [50]).bind fun p30 =>
  (fX7_thoseThatAre p26 p30 S2).bind fun r33 =>
  some (.inl r33, S2))
  else
  if a1 = (7 : Int32) then
  ((fX1_fighting a0 S2).bind fun r36 =>
  some (.inl r36, S2))
  else
  if a1 = (8 : Int32) then
  (some (.inl (so_I S2 a0 13), S2))
  else
  if a1 = (9 : Int32) then
  (some (.inl (so_I S2 a0 12), S2))
  else
  ((so_rk (so_R S2 a0 5) [22]).bind fun p39 =>
  (fX7_all p39 S2).bind fun r42 =>
  some (.inl r42, S2)))
  (fun x3 S4 =>
  so_gd (decide (x3 % 64 ∈ [27])) fun _ =>
  some (.inr x3, S4))
set_option maxHeartbeats 4000000 in
set_option maxRecDepth 100000 in
theorem wX1_told {res : Int32 ⊕ Nat} {S' : so_St}  (a0 : Nat) (a1 : Int32)  (S : so_St) (k_a0 : a0 % 64 ∈ [0]) (hf : fX1_told a0 a1 S = some (res, S')) : jx_Sp 7 yX1_told (ws_ yX1_told cX1_told 2 (Option.some Jvm.ClassFile.FieldType.int)) [.ref a0, .int a1] S (so_oi res) S' := by
  refine jx_of (plainFor_of_name (by decide)) (so_le rfl) ?_
  show jg_ (S, S', so_oi res) kX1_told 0 [(0, .ref a0), (1, .int a1)] [] S
  unfold fX1_told at hf
  refine jr_aload_n dX1_told_0 rfl rfl jv_rr ?_
  refine jr_iload_n dX1_told_1 rfl rfl ?_
  refine jr_iconst dX1_told_2 ic_0 ?_
  refine jr_bipush dX1_told_3 bp_10 ?_
  refine jr_call (st := [.ref a0]) lk_X1_246 (wX1_isIn a1 (0 : Int32) (10 : Int32) S rfl) jk_r0 rfl rfl (so_le rfl) (so_le rfl) dX1_told_5 ?_
  rcases so_b3E hf with ⟨r1, S2, h5, hf⟩ | ⟨x3, S4, h5, hf⟩
  · refine jr_callM (st := []) lk_X1_172_0 (wX1_need a0 (fX1_isIn a1 (0 : Int32) (10 : Int32)) S k_a0 h5) k_a0 rfl rfl rfl (so_le rfl) (so_le rfl) dX1_told_8 ?_
    refine jr_iload_n dX1_told_11 rfl rfl ?_
    by_cases c7 : a1 = (0 : Int32)
    · have hf := so_t c7 hf
      refine jr_tsIn (tgt := 68) (0 : Int32) c7 dX1_told_12 (by decide) (by decide) rfl rfl ?_
      refine jr_aload_n dX1_told_68 rfl rfl jv_rr ?_
      refine jr_getR fl_X1_22_0 k_a0 (so_n26 rfl) dX1_told_69 ?_
      obtain ⟨p8, h9, hf⟩ := so_b hf
      obtain ⟨h9, k_p8⟩ := so_rk_s h9
      refine jr_rf h9 ?_
      refine jr_getI fl_X1_149_1 k_p8 (so_n26 rfl) dX1_told_72 ?_
      obtain ⟨rfl, rfl⟩ := so_e2 hf
      exact jr_iret rfl rfl dX1_told_75
    · have hf := so_f c7 hf
      by_cases c10 : a1 = (1 : Int32)
      · have hf := so_t c10 hf
        refine jr_tsIn (tgt := 76) (1 : Int32) c10 dX1_told_12 (by decide) (by decide) rfl rfl ?_
        refine jr_aload_n dX1_told_76 rfl rfl jv_rr ?_
        refine jr_getR fl_X1_22_0 k_a0 (so_n26 rfl) dX1_told_77 ?_
        obtain ⟨p11, h12, hf⟩ := so_b hf
        obtain ⟨h12, k_p11⟩ := so_rk_s h12
        refine jr_rf h12 ?_
        refine jr_getI fl_X1_250_1 k_p11 (so_n26 rfl) dX1_told_80 ?_
        obtain ⟨rfl, rfl⟩ := so_e2 hf
        exact jr_iret rfl rfl dX1_told_83
      · have hf := so_f c10 hf
        by_cases c13 : a1 = (2 : Int32)
        · have hf := so_t c13 hf
          refine jr_tsIn (tgt := 84) (2 : Int32) c13 dX1_told_12 (by decide) (by decide) rfl rfl ?_
          refine jr_aload_n dX1_told_84 rfl rfl jv_rr ?_
          obtain ⟨r15, h14, hf⟩ := so_b hf
          refine jr_callM (st := []) lk_X1_156_0 (wX1_pianos a0 S2 k_a0 h14) k_a0 rfl rfl rfl (so_le rfl) (so_le rfl) dX1_told_85 ?_
          obtain ⟨rfl, rfl⟩ := so_e2 hf
          exact jr_iret rfl rfl dX1_told_88
        · have hf := so_f c13 hf
          by_cases c16 : a1 = (3 : Int32)
          · have hf := so_t c16 hf
            refine jr_tsIn (tgt := 89) (3 : Int32) c16 dX1_told_12 (by decide) (by decide) rfl rfl ?_
            refine jr_aload_n dX1_told_89 rfl rfl jv_rr ?_
            refine jr_getR fl_X1_49_0 k_a0 (so_n26 rfl) dX1_told_90 ?_
            obtain ⟨p17, h18, hf⟩ := so_b hf
            obtain ⟨h18, k_p17⟩ := so_rk_s h18
            refine jr_rf h18 ?_
            refine jr_getI fl_X1_253_22 k_p17 (so_n26 rfl) dX1_told_93 ?_
            obtain ⟨rfl, rfl⟩ := so_e2 hf
            exact jr_iret rfl rfl dX1_told_96
          · have hf := so_f c16 hf
            by_cases c19 : a1 = (4 : Int32)
            · have hf := so_t c19 hf
              refine jr_tsIn (tgt := 97) (4 : Int32) c19 dX1_told_12 (by decide) (by decide) rfl rfl ?_
              refine jr_aload_n dX1_told_97 rfl rfl jv_rr ?_
              refine jr_getR fl_X1_49_0 k_a0 (so_n26 rfl) dX1_told_98 ?_
              obtain ⟨p20, h21, hf⟩ := so_b hf
              obtain ⟨h21, k_p20⟩ := so_rk_s h21
              refine jr_rf h21 ?_
              refine jr_getI fl_X1_256_22 k_p20 (so_n26 rfl) dX1_told_101 ?_
              obtain ⟨rfl, rfl⟩ := so_e2 hf
              exact jr_iret rfl rfl dX1_told_104
            · have hf := so_f c19 hf
              by_cases c22 : a1 = (5 : Int32)
              · have hf := so_t c22 hf
                refine jr_tsIn (tgt := 105) (5 : Int32) c22 dX1_told_12 (by decide) (by decide) rfl rfl ?_
                refine jr_aload_n dX1_told_105 rfl rfl jv_rr ?_
                obtain ⟨r24, h23, hf⟩ := so_b hf
                refine jr_callM (st := []) lk_X1_259_0 (wX1_standing a0 S2 k_a0 h23) k_a0 rfl rfl rfl (so_le rfl) (so_le rfl) dX1_told_106 ?_
                obtain ⟨rfl, rfl⟩ := so_e2 hf
                exact jr_iret rfl rfl dX1_told_109
              · have hf := so_f c22 hf
                by_cases c25 : a1 = (6 : Int32)
                · have hf := so_t c25 hf
                  refine jr_tsIn (tgt := 110) (6 : Int32) c25 dX1_told_12 (by decide) (by decide) rfl rfl ?_
                  refine jr_aload_n dX1_told_110 rfl rfl jv_rr ?_
                  refine jr_getR fl_X1_49_0 k_a0 (so_n26 rfl) dX1_told_111 ?_
                  obtain ⟨p26, h27, hf⟩ := so_b hf
                  obtain ⟨h27, k_p26⟩ := so_rk_s h27
                  refine jr_rf h27 ?_
                  refine jr_aload_n dX1_told_114 rfl rfl jv_rr ?_
                  refine jr_getR fl_X1_22_0 k_a0 (so_n26 rfl) dX1_told_115 ?_
                  obtain ⟨p28, h29, hf⟩ := so_b hf
                  obtain ⟨h29, k_p28⟩ := so_rk_s h29
                  refine jr_rf h29 ?_
                  refine jr_getR fl_X1_262_1 k_p28 (so_n26 rfl) dX1_told_118 ?_
                  obtain ⟨p30, h31, hf⟩ := so_b hf
                  obtain ⟨h31, k_p30⟩ := so_rk_s h31
                  refine jr_rf h31 ?_
                  obtain ⟨r33, h32, hf⟩ := so_b hf
                  refine jr_callM (st := []) lk_X1_265_22 (wX7_thoseThatAre p26 p30 S2 k_p26 k_p30 h32) k_p26 rfl rfl rfl (so_le rfl) (so_le rfl) dX1_told_121 ?_
                  obtain ⟨rfl, rfl⟩ := so_e2 hf
                  exact jr_iret rfl rfl dX1_told_124
                · have hf := so_f c25 hf
                  by_cases c34 : a1 = (7 : Int32)
                  · have hf := so_t c34 hf
                    refine jr_tsIn (tgt := 125) (7 : Int32) c34 dX1_told_12 (by decide) (by decide) rfl rfl ?_
                    refine jr_aload_n dX1_told_125 rfl rfl jv_rr ?_
                    obtain ⟨r36, h35, hf⟩ := so_b hf
                    refine jr_callM (st := []) lk_X1_268_0 (wX1_fighting a0 S2 k_a0 h35) k_a0 rfl rfl rfl (so_le rfl) (so_le rfl) dX1_told_126 ?_
                    obtain ⟨rfl, rfl⟩ := so_e2 hf
                    exact jr_iret rfl rfl dX1_told_129
                  · have hf := so_f c34 hf
                    by_cases c37 : a1 = (8 : Int32)
                    · have hf := so_t c37 hf
                      refine jr_tsIn (tgt := 130) (8 : Int32) c37 dX1_told_12 (by decide) (by decide) rfl rfl ?_
                      refine jr_aload_n dX1_told_130 rfl rfl jv_rr ?_
                      refine jr_getI fl_X1_106_0 k_a0 (so_n26 rfl) dX1_told_131 ?_
                      obtain ⟨rfl, rfl⟩ := so_e2 hf
                      exact jr_iret rfl rfl dX1_told_134
                    · have hf := so_f c37 hf
                      by_cases c38 : a1 = (9 : Int32)
                      · have hf := so_t c38 hf
                        refine jr_tsIn (tgt := 135) (9 : Int32) c38 dX1_told_12 (by decide) (by decide) rfl rfl ?_
                        refine jr_aload_n dX1_told_135 rfl rfl jv_rr ?_
                        refine jr_getI fl_X1_103_0 k_a0 (so_n26 rfl) dX1_told_136 ?_
                        obtain ⟨rfl, rfl⟩ := so_e2 hf
                        exact jr_iret rfl rfl dX1_told_139
                      · have hf := so_f c38 hf
                        refine jr_tsOut (tgt := 140) [(0 : Int32), (1 : Int32), (2 : Int32), (3 : Int32), (4 : Int32), (5 : Int32), (6 : Int32), (7 : Int32), (8 : Int32), (9 : Int32)] (by decide) (List.forall_mem_cons.mpr ⟨c7, List.forall_mem_cons.mpr ⟨c10, List.forall_mem_cons.mpr ⟨c13, List.forall_mem_cons.mpr ⟨c16, List.forall_mem_cons.mpr ⟨c19, List.forall_mem_cons.mpr ⟨c22, List.forall_mem_cons.mpr ⟨c25, List.forall_mem_cons.mpr ⟨c34, List.forall_mem_cons.mpr ⟨c37, List.forall_mem_cons.mpr ⟨c38, fun _ h => by cases h⟩⟩⟩⟩⟩⟩⟩⟩⟩⟩) dX1_told_12 rfl ?_
                        refine jr_aload_n dX1_told_140 rfl rfl jv_rr ?_
                        refine jr_getR fl_X1_49_0 k_a0 (so_n26 rfl) dX1_told_141 ?_
                        obtain ⟨p39, h40, hf⟩ := so_b hf
                        obtain ⟨h40, k_p39⟩ := so_rk_s h40
                        refine jr_rf h40 ?_
                        obtain ⟨r42, h41, hf⟩ := so_b hf
                        refine jr_callM (st := []) lk_X1_271_22 (wX7_all p39 S2 k_p39 h41) k_p39 rfl rfl rfl (so_le rfl) (so_le rfl) dX1_told_144 ?_
                        obtain ⟨rfl, rfl⟩ := so_e2 hf
                        exact jr_iret rfl rfl dX1_told_147
  · refine jr_callMX (st := []) lk_X1_172_0 (wX1_need a0 (fX1_isIn a1 (0 : Int32) (10 : Int32)) S k_a0 h5) k_a0 rfl rfl rfl (so_le rfl) (so_le rfl) dX1_told_8 ?_
    obtain ⟨g6, hf⟩ := so_gdE hf
    obtain ⟨rfl, rfl⟩ := so_e2 hf
    exact jr_out (so_l29 (of_decide_eq_true g6) rfl).1 (so_l29 (of_decide_eq_true g6) rfl).2 rfl

/- X0_told -/
abbrev kX0_told : jx_K := (cX0_told, 4, RX0, 8, (Option.some Jvm.ClassFile.FieldType.int), "told", tableOf [(0, 9, 12, 13)])
def fX0_told (a0 : Nat) (a1 : Int32) (a2 : Nat) (S : so_St) : Option (Int32 × so_St) :=
  so_b3 (fX1_told a0 a1 S) (fun r1 S2 =>
  so_gd (so_in (0 : Int32) (so_l S2 a2)) fun _ =>
  so_let (so_sL S2 a2 (0 : Int32).toNatClampNeg r1.toInt64) fun S8 =>
  some ((0 : Int32), S8))
  (fun x3 S4 =>
  if x3 % 64 = 27 then
  (some ((1 : Int32), S4))
  else
  none)
set_option maxHeartbeats 4000000 in
set_option maxRecDepth 100000 in
theorem wX0_told {res : Int32} {S' : so_St}  (a0 : Nat) (a1 : Int32) (a2 : Nat)  (S : so_St) (k_a0 : a0 % 64 ∈ [0]) (k_a2 : a2 % 64 ∈ [53]) (hf : fX0_told a0 a1 a2 S = some (res, S')) : jx_Sp 8 yX0_told (wsW_ yX0_told cX0_told 4 (Option.some Jvm.ClassFile.FieldType.int) [(0, 9, 12, 13)]) [.ref a0, .int a1, .ref a2] S (.inl (some (.int res))) S' := by
  refine jx_ofW (by decide) (so_le rfl) ?_
  show jg_ (S, S', .inl (some (.int res))) kX0_told 0 [(0, .ref a0), (1, .int a1), (2, .ref a2)] [] S
  unfold fX0_told at hf
  refine jr_aload_n dX0_told_0 rfl rfl jv_rr ?_
  refine jr_iconst dX0_told_1 ic_0 ?_
  refine jr_aload_n dX0_told_2 rfl rfl jv_rr ?_
  refine jr_iload_n dX0_told_3 rfl rfl ?_
  rcases so_b3E hf with ⟨r1, S2, h5, hf⟩ | ⟨x3, S4, h5, hf⟩
  · refine jr_callM (st := [.int (0 : Int32), .ref a2]) lk_X0_24_0 (wX1_told a0 a1 S k_a0 h5) k_a0 rfl rfl rfl (so_le rfl) (so_le rfl) dX0_told_4 ?_
    refine jr_i2l dX0_told_7 ?_
    obtain ⟨g7, hf⟩ := so_gdE hf
    refine jr_lastore (so_m1 k_a2) (so_inE g7) dX0_told_8 ?_
    refine so_let_e hf (fun S8 hf => ?_)
    refine jr_goto (tgt := 15) dX0_told_9 rfl ?_
    refine jr_iconst dX0_told_15 ic_0 ?_
    obtain ⟨rfl, rfl⟩ := so_e2 hf
    exact jr_iret rfl rfl dX0_told_16
  · refine jr_callMX (st := [.int (0 : Int32), .ref a2]) lk_X0_24_0 (wX1_told a0 a1 S k_a0 h5) k_a0 rfl rfl rfl (so_le rfl) (so_le rfl) dX0_told_4 ?_
    by_cases c6 : x3 % 64 = 27
    · have hf := so_t c6 hf
      refine jr_catch (by rw [c6]; decide) (by rw [c6]; decide) [] ⟨0, 9, 12, 13⟩ [] rfl (fun _ h => by cases h) rfl (by decide) q863 (by rw [c6]; exact q181) ?_
      refine jr_astore_n (lv' := [(0, .ref a0), (1, .int a1), (2, .ref a2), (3, .ref x3)]) dX0_told_12 rfl (so_le rfl) jv_rr rfl ?_
      refine jr_iconst dX0_told_13 ic_1 ?_
      obtain ⟨rfl, rfl⟩ := so_e2 hf
      exact jr_iret rfl rfl dX0_told_14
    · have hf := so_f c6 hf
      exact so_no hf

/- X1_needThere -/
abbrev kX1_needThere : jx_K := (cX1_needThere, 3, RX1, 6, (Option.none : Option Jvm.ClassFile.FieldType), "needThere", [])
def fX1_needThere (a0 : Nat) (a1 : Int32) (a2 : Int32) (S : so_St) : Option ((Unit ⊕ Nat) × so_St) :=
  so_j (κ := Unit → Option ((Unit ⊕ Nat) × so_St)) (ρ := Option ((Unit ⊕ Nat) × so_St)) (fun (_u : Unit) =>
  (so_rk (so_R S a0 4) [50]).bind fun p2 =>
  so_gd (so_in (0 : Int32) (so_l S p2)) fun _ =>
  so_gd (so_in (0 : Int32) (so_l S p2)) fun _ =>
  so_let (so_sI S p2 (0 : Int32).toNatClampNeg ((so_I S p2 (0 : Int32).toNatClampNeg) + (1 : Int32))) fun S6 =>
  so_let (so_new S6 28 0 6) fun S7 =>
  some (.inr (so_at S6 28), S7))
  (fun J1 =>
  if a1 < (0 : Int32) then
  (J1 ())
  else
  (if a2 ≤ a1 then
  (J1 ())
  else
  (some (.inl (), S))))
set_option maxHeartbeats 4000000 in
set_option maxRecDepth 100000 in
theorem wX1_needThere {res : Unit ⊕ Nat} {S' : so_St}  (a0 : Nat) (a1 : Int32) (a2 : Int32)  (S : so_St) (k_a0 : a0 % 64 ∈ [0]) (hf : fX1_needThere a0 a1 a2 S = some (res, S')) : jx_Sp 6 yX1_needThere (ws_ yX1_needThere cX1_needThere 3 (Option.none : Option Jvm.ClassFile.FieldType)) [.ref a0, .int a1, .int a2] S (so_ov res) S' := by
  refine jx_of (plainFor_of_name (by decide)) (so_le rfl) ?_
  show jg_ (S, S', so_ov res) kX1_needThere 0 [(0, .ref a0), (1, .int a1), (2, .int a2)] [] S
  unfold fX1_needThere at hf
  refine jr_iload_n dX1_needThere_0 rfl rfl ?_
  refine so_jE hf (fun J => ∀ (u0 : Unit), J u0 = some (res, S') → jg_ (S, S', so_ov res) kX1_needThere 10 [(0, .ref a0)] [] S) (fun _u hf => ?_) (fun J1 hJ1 hf => ?_)
  · refine jr_aload_n dX1_needThere_10 rfl rfl jv_rr ?_
    refine jr_getR fl_X1_41_0 k_a0 (so_n26 rfl) dX1_needThere_11 ?_
    obtain ⟨p2, h3, hf⟩ := so_b hf
    obtain ⟨h3, k_p2⟩ := so_rk_s h3
    refine jr_rf h3 ?_
    refine jr_iconst dX1_needThere_14 ic_0 ?_
    refine jr_dup2 dX1_needThere_15 rfl rfl ?_
    obtain ⟨g4, hf⟩ := so_gdE hf
    refine jr_iaload (so_m1 k_p2) (so_inE g4) dX1_needThere_16 ?_
    refine jr_iconst dX1_needThere_17 ic_1 ?_
    refine jr_iadd dX1_needThere_18 ?_
    obtain ⟨g5, hf⟩ := so_gdE hf
    refine jr_iastore (so_m1 k_p2) (so_inE g5) dX1_needThere_19 ?_
    refine so_let_e hf (fun S6 hf => ?_)
    refine jr_make0 (ci := 28) (cls := "java/util/NoSuchElementException") (names := ["java/lang/RuntimeException", "java/lang/Exception"]) rfl (List.all_eq_true.mp rfl) q1711 q148 jm_nse jm_nseg (so_le rfl) rfl rfl (so_le rfl) (so_le rfl) (so_le rfl) dX1_needThere_20 dX1_needThere_23 dX1_needThere_24 ?_
    refine so_let_e hf (fun S7 hf => ?_)
    obtain ⟨rfl, rfl⟩ := so_e2 hf
    exact jr_athrow (so_n63 (so_atk rfl) rfl) dX1_needThere_27 (jr_out (so_l29 (so_atk rfl) rfl).1 (so_l29 (so_atk rfl) rfl).2 rfl)
  · refine jr_if_lt (tgt := 10) dX1_needThere_1 rfl (fun c9 => ?_) (fun c9 => ?_)
    · have hf := so_t c9 hf
      refine jr_sub [0] rfl ?_
      exact hJ1 () hf
    · have hf := so_f c9 hf
      refine jr_iload_n dX1_needThere_4 rfl rfl ?_
      refine jr_iload_n dX1_needThere_5 rfl rfl ?_
      refine jr_icmp_ge (tgt := 10) dX1_needThere_6 rfl (fun c10 => ?_) (fun c10 => ?_)
      · have hf := so_t c10 hf
        refine jr_sub [0] rfl ?_
        exact hJ1 () hf
      · have hf := so_f c10 hf
        obtain ⟨rfl, rfl⟩ := so_e2 hf
        exact jr_vret rfl dX1_needThere_9

/- X1_needHouse -/
abbrev kX1_needHouse : jx_K := (cX1_needHouse, 2, RX1, 7, (Option.none : Option Jvm.ClassFile.FieldType), "needHouse", [])
def fX1_needHouse (a0 : Nat) (a1 : Int32) (S : so_St) : Option ((Unit ⊕ Nat) × so_St) :=
  (so_rk (so_R S a0 0) [1]).bind fun p1 =>
  so_b3 (fX1_needThere a0 a1 (so_I S p1 6) S) (fun r3 S4 =>
  some (.inl (), S4))
  (fun x5 S6 =>
  so_gd (decide (x5 % 64 ∈ [28])) fun _ =>
  some (.inr x5, S6))
set_option maxHeartbeats 4000000 in
set_option maxRecDepth 100000 in
theorem wX1_needHouse {res : Unit ⊕ Nat} {S' : so_St}  (a0 : Nat) (a1 : Int32)  (S : so_St) (k_a0 : a0 % 64 ∈ [0]) (hf : fX1_needHouse a0 a1 S = some (res, S')) : jx_Sp 7 yX1_needHouse (ws_ yX1_needHouse cX1_needHouse 2 (Option.none : Option Jvm.ClassFile.FieldType)) [.ref a0, .int a1] S (so_ov res) S' := by
  refine jx_of (plainFor_of_name (by decide)) (so_le rfl) ?_
  show jg_ (S, S', so_ov res) kX1_needHouse 0 [(0, .ref a0), (1, .int a1)] [] S
  unfold fX1_needHouse at hf
  refine jr_aload_n dX1_needHouse_0 rfl rfl jv_rr ?_
  refine jr_iload_n dX1_needHouse_1 rfl rfl ?_
  refine jr_aload_n dX1_needHouse_2 rfl rfl jv_rr ?_
  refine jr_getR fl_X1_22_0 k_a0 (so_n26 rfl) dX1_needHouse_3 ?_
  obtain ⟨p1, h2, hf⟩ := so_b hf
  obtain ⟨h2, k_p1⟩ := so_rk_s h2
  refine jr_rf h2 ?_
  refine jr_getI fl_X1_149_1 k_p1 (so_n26 rfl) dX1_needHouse_6 ?_
  rcases so_b3E hf with ⟨r3, S4, h7, hf⟩ | ⟨x5, S6, h7, hf⟩
  · refine jr_callM (st := []) lk_X1_152_0 (wX1_needThere a0 a1 (so_I S p1 6) S k_a0 h7) k_a0 rfl rfl rfl (so_le rfl) (so_le rfl) dX1_needHouse_9 ?_
    obtain ⟨rfl, rfl⟩ := so_e2 hf
    exact jr_vret rfl dX1_needHouse_12
  · refine jr_callMX (st := []) lk_X1_152_0 (wX1_needThere a0 a1 (so_I S p1 6) S k_a0 h7) k_a0 rfl rfl rfl (so_le rfl) (so_le rfl) dX1_needHouse_9 ?_
    obtain ⟨g8, hf⟩ := so_gdE hf
    obtain ⟨rfl, rfl⟩ := so_e2 hf
    exact jr_out (so_l29 (of_decide_eq_true g8) rfl).1 (so_l29 (of_decide_eq_true g8) rfl).2 rfl

/- X1_house -/
abbrev kX1_house : jx_K := (cX1_house, 5, RX1, 8, (Option.some Jvm.ClassFile.FieldType.int), "house", [])
def LX1_house_95 (f0 : Nat) (f1 : Int32) : Nat → Int32 → Int32 → so_St → Option ((Int32 ⊕ Nat) × so_St)
  | 0, _, _, _ => none
  | n + 1, v36, v37, S38 =>
    if (10 : Int32) ≤ v37 then
    (some (.inl v36, S38))
    else
    ((so_rk (so_R S38 f0 5) [22]).bind fun p40 =>
    (so_rk (so_R S38 p40 3) [50]).bind fun p42 =>
    so_gd (so_in (((10 : Int32) * f1) + v37) (so_l S38 p42)) fun _ =>
    so_j (κ := Int32 → Option ((Int32 ⊕ Nat) × so_St)) (ρ := Option ((Int32 ⊕ Nat) × so_St)) (fun (v45 : Int32) =>
    LX1_house_95 f0 f1 n (v36 + v45) (v37 + (1 : Int32)) S38)
    (fun J46 =>
    if (so_I S38 p42 (((10 : Int32) * f1) + v37).toNatClampNeg) ≤ (0 : Int32) then
    (J46 (0 : Int32))
    else
    (J46 (1 : Int32))))
set_option maxHeartbeats 4000000 in
set_option maxRecDepth 100000 in
theorem wX1_house_95 {res : Int32 ⊕ Nat} {S' : so_St} {S0 : so_St}   (f0 : Nat) (f1 : Int32)   (k_f0 : f0 % 64 ∈ [0]) : ∀ (n : Nat) (v36 : Int32) (v37 : Int32) (S38 : so_St), LX1_house_95 f0 f1 n v36 v37 S38 = some (res, S') → jg_ (S0, S', so_oi res) kX1_house 95 [(0, .ref f0), (1, .int f1), (3, .int v36), (4, .int v37)] [] S38 := by
  intro n
  induction n with
  | zero =>
    intro v36 v37 S38 hf
    exact so_no hf
  | succ n ih =>
    intro v36 v37 S38 hf
    rw [LX1_house_95] at hf
    refine jr_iload dX1_house_95 rfl ?_
    refine jr_bipush dX1_house_97 bp_10 ?_
    refine jr_icmp_ge (tgt := 134) dX1_house_99 rfl (fun c39 => ?_) (fun c39 => ?_)
    · have hf := so_t c39 hf
      refine jr_iload_n dX1_house_134 rfl rfl ?_
      obtain ⟨rfl, rfl⟩ := so_e2 hf
      exact jr_iret rfl rfl dX1_house_135
    · have hf := so_f c39 hf
      refine jr_iload_n dX1_house_102 rfl rfl ?_
      refine jr_aload_n dX1_house_103 rfl rfl jv_rr ?_
      refine jr_getR fl_X1_49_0 k_f0 (so_n26 rfl) dX1_house_104 ?_
      obtain ⟨p40, h41, hf⟩ := so_b hf
      obtain ⟨h41, k_p40⟩ := so_rk_s h41
      refine jr_rf h41 ?_
      refine jr_getR fl_X1_286_22 k_p40 (so_n26 rfl) dX1_house_107 ?_
      obtain ⟨p42, h43, hf⟩ := so_b hf
      obtain ⟨h43, k_p42⟩ := so_rk_s h43
      refine jr_rf h43 ?_
      refine jr_bipush dX1_house_110 bp_10 ?_
      refine jr_iload_n dX1_house_112 rfl rfl ?_
      refine jr_imul dX1_house_113 ?_
      refine jr_iload dX1_house_114 rfl ?_
      refine jr_iadd dX1_house_116 ?_
      obtain ⟨g44, hf⟩ := so_gdE hf
      refine jr_iaload (so_m1 k_p42) (so_inE g44) dX1_house_117 ?_
      refine so_jE hf (fun J => ∀ (v45 : Int32), J v45 = some (res, S') → jg_ (S0, S', so_oi res) kX1_house 126 [(0, .ref f0), (1, .int f1), (4, .int v37)] [.int v45, .int v36] S38) (fun v45 hf => ?_) (fun J46 hJ46 hf => ?_)
      · refine jr_iadd dX1_house_126 ?_
        refine jr_istore_n (lv' := [(0, .ref f0), (1, .int f1), (3, .int (v36 + v45)), (4, .int v37)]) dX1_house_127 rfl (so_le rfl) rfl ?_
        refine jr_iinc (v := v37 + (1 : Int32)) (lv' := [(0, .ref f0), (1, .int f1), (3, .int (v36 + v45)), (4, .int (v37 + (1 : Int32)))]) dX1_house_128 rfl rfl (so_le rfl) rfl ?_
        refine jr_goto (tgt := 95) dX1_house_131 rfl ?_
        exact ih (v36 + v45) (v37 + (1 : Int32)) S38 hf
      · refine jr_if_le (tgt := 125) dX1_house_118 rfl (fun c47 => ?_) (fun c47 => ?_)
        · have hf := so_t c47 hf
          refine jr_iconst dX1_house_125 ic_0 ?_
          refine jr_sub [0, 1, 3] rfl ?_
          exact hJ46 (0 : Int32) hf
        · have hf := so_f c47 hf
          refine jr_iconst dX1_house_121 ic_1 ?_
          refine jr_goto (tgt := 126) dX1_house_122 rfl ?_
          refine jr_sub [0, 1, 3] rfl ?_
          exact hJ46 (1 : Int32) hf
def fX1_house (a0 : Nat) (a1 : Int32) (a2 : Int32) (S : so_St) : Option ((Int32 ⊕ Nat) × so_St) :=
  so_b3 (fX1_needHouse a0 a1 S) (fun r1 S2 =>
  so_b3 (fX1_need a0 (fX1_isIn a2 (0 : Int32) (5 : Int32)) S2) (fun r7 S8 =>
  if a2 = (0 : Int32) then
  ((so_rk (so_R S8 a0 5) [22]).bind fun p14 =>
  (fX7_is p14 a1 S8).bind fun r17 =>
  some (.inl r17, S8))
  else
  if a2 = (1 : Int32) then
  ((so_rk (so_R S8 a0 5) [22]).bind fun p19 =>
  (fX7_in p19 a1 S8).bind fun r22 =>
  some (.inl r22, S8))
  else
  if a2 = (2 : Int32) then
  ((so_rk (so_R S8 a0 0) [1]).bind fun p24 =>
  (so_rk (so_R S8 p24 2) [50]).bind fun p26 =>
  so_gd (so_in a1 (so_l S8 p26)) fun _ =>
  some (.inl (so_I S8 p26 a1.toNatClampNeg), S8))
  else
  if a2 = (3 : Int32) then
  ((so_rk (so_R S8 a0 0) [1]).bind fun p30 =>
  (so_rk (so_R S8 p30 1) [50]).bind fun p32 =>
  so_gd (so_in a1 (so_l S8 p32)) fun _ =>
  some (.inl (so_I S8 p32 a1.toNatClampNeg), S8))
  else
  if a2 = (4 : Int32) then
  (LX1_house_95 a0 a1 so_N (0 : Int32) (0 : Int32) S8)
  else
  ((so_rk (so_R S8 a0 0) [1]).bind fun p48 =>
  (so_rk (so_R S8 p48 0) [50]).bind fun p50 =>
  so_gd (so_in a1 (so_l S8 p50)) fun _ =>
  some (.inl (so_I S8 p50 a1.toNatClampNeg), S8)))
  (fun x9 S10 =>
  so_gd (decide (x9 % 64 ∈ [27])) fun _ =>
  some (.inr x9, S10)))
  (fun x3 S4 =>
  so_gd (decide (x3 % 64 ∈ [28])) fun _ =>
  some (.inr x3, S4))
set_option maxHeartbeats 4000000 in
set_option maxRecDepth 100000 in
theorem wX1_house {res : Int32 ⊕ Nat} {S' : so_St}  (a0 : Nat) (a1 : Int32) (a2 : Int32)  (S : so_St) (k_a0 : a0 % 64 ∈ [0]) (hf : fX1_house a0 a1 a2 S = some (res, S')) : jx_Sp 8 yX1_house (ws_ yX1_house cX1_house 5 (Option.some Jvm.ClassFile.FieldType.int)) [.ref a0, .int a1, .int a2] S (so_oi res) S' := by
  refine jx_of (plainFor_of_name (by decide)) (so_le rfl) ?_
  show jg_ (S, S', so_oi res) kX1_house 0 [(0, .ref a0), (1, .int a1), (2, .int a2)] [] S
  unfold fX1_house at hf
  refine jr_aload_n dX1_house_0 rfl rfl jv_rr ?_
  refine jr_iload_n dX1_house_1 rfl rfl ?_
  rcases so_b3E hf with ⟨r1, S2, h5, hf⟩ | ⟨x3, S4, h5, hf⟩
  · refine jr_callM (st := []) lk_X1_274_0 (wX1_needHouse a0 a1 S k_a0 h5) k_a0 rfl rfl rfl (so_le rfl) (so_le rfl) dX1_house_2 ?_
    refine jr_aload_n dX1_house_5 rfl rfl jv_rr ?_
    refine jr_iload_n dX1_house_6 rfl rfl ?_
    refine jr_iconst dX1_house_7 ic_0 ?_
    refine jr_iconst dX1_house_8 ic_5 ?_
    refine jr_call (st := [.ref a0]) lk_X1_246 (wX1_isIn a2 (0 : Int32) (5 : Int32) S2 rfl) jk_r0 rfl rfl (so_le rfl) (so_le rfl) dX1_house_9 ?_
    rcases so_b3E hf with ⟨r7, S8, h11, hf⟩ | ⟨x9, S10, h11, hf⟩
    · refine jr_callM (st := []) lk_X1_172_0 (wX1_need a0 (fX1_isIn a2 (0 : Int32) (5 : Int32)) S2 k_a0 h11) k_a0 rfl rfl rfl (so_le rfl) (so_le rfl) dX1_house_12 ?_
      refine jr_iload_n dX1_house_15 rfl rfl ?_
      by_cases c13 : a2 = (0 : Int32)
      · have hf := so_t c13 hf
        refine jr_tsIn (tgt := 52) (0 : Int32) c13 dX1_house_16 (by decide) (by decide) rfl rfl ?_
        refine jr_aload_n dX1_house_52 rfl rfl jv_rr ?_
        refine jr_getR fl_X1_49_0 k_a0 (so_n26 rfl) dX1_house_53 ?_
        obtain ⟨p14, h15, hf⟩ := so_b hf
        obtain ⟨h15, k_p14⟩ := so_rk_s h15
        refine jr_rf h15 ?_
        refine jr_iload_n dX1_house_56 rfl rfl ?_
        obtain ⟨r17, h16, hf⟩ := so_b hf
        refine jr_callM (st := []) lk_X1_277_22 (wX7_is p14 a1 S8 k_p14 h16) k_p14 rfl rfl rfl (so_le rfl) (so_le rfl) dX1_house_57 ?_
        obtain ⟨rfl, rfl⟩ := so_e2 hf
        exact jr_iret rfl rfl dX1_house_60
      · have hf := so_f c13 hf
        by_cases c18 : a2 = (1 : Int32)
        · have hf := so_t c18 hf
          refine jr_tsIn (tgt := 61) (1 : Int32) c18 dX1_house_16 (by decide) (by decide) rfl rfl ?_
          refine jr_aload_n dX1_house_61 rfl rfl jv_rr ?_
          refine jr_getR fl_X1_49_0 k_a0 (so_n26 rfl) dX1_house_62 ?_
          obtain ⟨p19, h20, hf⟩ := so_b hf
          obtain ⟨h20, k_p19⟩ := so_rk_s h20
          refine jr_rf h20 ?_
          refine jr_iload_n dX1_house_65 rfl rfl ?_
          obtain ⟨r22, h21, hf⟩ := so_b hf
          refine jr_callM (st := []) lk_X1_280_22 (wX7_in p19 a1 S8 k_p19 h21) k_p19 rfl rfl rfl (so_le rfl) (so_le rfl) dX1_house_66 ?_
          obtain ⟨rfl, rfl⟩ := so_e2 hf
          exact jr_iret rfl rfl dX1_house_69
        · have hf := so_f c18 hf
          by_cases c23 : a2 = (2 : Int32)
          · have hf := so_t c23 hf
            refine jr_tsIn (tgt := 70) (2 : Int32) c23 dX1_house_16 (by decide) (by decide) rfl rfl ?_
            refine jr_aload_n dX1_house_70 rfl rfl jv_rr ?_
            refine jr_getR fl_X1_22_0 k_a0 (so_n26 rfl) dX1_house_71 ?_
            obtain ⟨p24, h25, hf⟩ := so_b hf
            obtain ⟨h25, k_p24⟩ := so_rk_s h25
            refine jr_rf h25 ?_
            refine jr_getR fl_X1_283_1 k_p24 (so_n26 rfl) dX1_house_74 ?_
            obtain ⟨p26, h27, hf⟩ := so_b hf
            obtain ⟨h27, k_p26⟩ := so_rk_s h27
            refine jr_rf h27 ?_
            refine jr_iload_n dX1_house_77 rfl rfl ?_
            obtain ⟨g28, hf⟩ := so_gdE hf
            refine jr_iaload (so_m1 k_p26) (so_inE g28) dX1_house_78 ?_
            obtain ⟨rfl, rfl⟩ := so_e2 hf
            exact jr_iret rfl rfl dX1_house_79
          · have hf := so_f c23 hf
            by_cases c29 : a2 = (3 : Int32)
            · have hf := so_t c29 hf
              refine jr_tsIn (tgt := 80) (3 : Int32) c29 dX1_house_16 (by decide) (by decide) rfl rfl ?_
              refine jr_aload_n dX1_house_80 rfl rfl jv_rr ?_
              refine jr_getR fl_X1_22_0 k_a0 (so_n26 rfl) dX1_house_81 ?_
              obtain ⟨p30, h31, hf⟩ := so_b hf
              obtain ⟨h31, k_p30⟩ := so_rk_s h31
              refine jr_rf h31 ?_
              refine jr_getR fl_X1_262_1 k_p30 (so_n26 rfl) dX1_house_84 ?_
              obtain ⟨p32, h33, hf⟩ := so_b hf
              obtain ⟨h33, k_p32⟩ := so_rk_s h33
              refine jr_rf h33 ?_
              refine jr_iload_n dX1_house_87 rfl rfl ?_
              obtain ⟨g34, hf⟩ := so_gdE hf
              refine jr_iaload (so_m1 k_p32) (so_inE g34) dX1_house_88 ?_
              obtain ⟨rfl, rfl⟩ := so_e2 hf
              exact jr_iret rfl rfl dX1_house_89
            · have hf := so_f c29 hf
              by_cases c35 : a2 = (4 : Int32)
              · have hf := so_t c35 hf
                refine jr_tsIn (tgt := 90) (4 : Int32) c35 dX1_house_16 (by decide) (by decide) rfl rfl ?_
                refine jr_iconst dX1_house_90 ic_0 ?_
                refine jr_istore_n (lv' := [(0, .ref a0), (1, .int a1), (2, .int a2), (3, .int (0 : Int32))]) dX1_house_91 rfl (so_le rfl) rfl ?_
                refine jr_iconst dX1_house_92 ic_0 ?_
                refine jr_istore (lv' := [(0, .ref a0), (1, .int a1), (2, .int a2), (3, .int (0 : Int32)), (4, .int (0 : Int32))]) dX1_house_93 (so_le rfl) rfl ?_
                refine jr_sub [0, 1, 3, 4] rfl ?_
                refine wX1_house_95 a0 a1 k_a0 so_N (0 : Int32) (0 : Int32) S8 hf
              · have hf := so_f c35 hf
                refine jr_tsOut (tgt := 136) [(0 : Int32), (1 : Int32), (2 : Int32), (3 : Int32), (4 : Int32)] (by decide) (List.forall_mem_cons.mpr ⟨c13, List.forall_mem_cons.mpr ⟨c18, List.forall_mem_cons.mpr ⟨c23, List.forall_mem_cons.mpr ⟨c29, List.forall_mem_cons.mpr ⟨c35, fun _ h => by cases h⟩⟩⟩⟩⟩) dX1_house_16 rfl ?_
                refine jr_aload_n dX1_house_136 rfl rfl jv_rr ?_
                refine jr_getR fl_X1_22_0 k_a0 (so_n26 rfl) dX1_house_137 ?_
                obtain ⟨p48, h49, hf⟩ := so_b hf
                obtain ⟨h49, k_p48⟩ := so_rk_s h49
                refine jr_rf h49 ?_
                refine jr_getR fl_X1_289_1 k_p48 (so_n26 rfl) dX1_house_140 ?_
                obtain ⟨p50, h51, hf⟩ := so_b hf
                obtain ⟨h51, k_p50⟩ := so_rk_s h51
                refine jr_rf h51 ?_
                refine jr_iload_n dX1_house_143 rfl rfl ?_
                obtain ⟨g52, hf⟩ := so_gdE hf
                refine jr_iaload (so_m1 k_p50) (so_inE g52) dX1_house_144 ?_
                obtain ⟨rfl, rfl⟩ := so_e2 hf
                exact jr_iret rfl rfl dX1_house_145
    · refine jr_callMX (st := []) lk_X1_172_0 (wX1_need a0 (fX1_isIn a2 (0 : Int32) (5 : Int32)) S2 k_a0 h11) k_a0 rfl rfl rfl (so_le rfl) (so_le rfl) dX1_house_12 ?_
      obtain ⟨g12, hf⟩ := so_gdE hf
      obtain ⟨rfl, rfl⟩ := so_e2 hf
      exact jr_out (so_l29 (of_decide_eq_true g12) rfl).1 (so_l29 (of_decide_eq_true g12) rfl).2 rfl
  · refine jr_callMX (st := []) lk_X1_274_0 (wX1_needHouse a0 a1 S k_a0 h5) k_a0 rfl rfl rfl (so_le rfl) (so_le rfl) dX1_house_2 ?_
    obtain ⟨g6, hf⟩ := so_gdE hf
    obtain ⟨rfl, rfl⟩ := so_e2 hf
    exact jr_out (so_l29 (of_decide_eq_true g6) rfl).1 (so_l29 (of_decide_eq_true g6) rfl).2 rfl

/- X0_house -/
abbrev kX0_house : jx_K := (cX0_house, 5, RX0, 9, (Option.some Jvm.ClassFile.FieldType.int), "house", tableOf [(0, 10, 13, 31), (0, 10, 17, 13)])
def fX0_house (a0 : Nat) (a1 : Int32) (a2 : Int32) (a3 : Nat) (S : so_St) : Option (Int32 × so_St) :=
  so_b3 (fX1_house a0 a1 a2 S) (fun r1 S2 =>
  so_gd (so_in (0 : Int32) (so_l S2 a3)) fun _ =>
  so_let (so_sL S2 a3 (0 : Int32).toNatClampNeg r1.toInt64) fun S9 =>
  some ((0 : Int32), S9))
  (fun x3 S4 =>
  if x3 % 64 = 27 then
  (some ((2 : Int32), S4))
  else
  if x3 % 64 = 28 then
  (some ((1 : Int32), S4))
  else
  none)
set_option maxHeartbeats 4000000 in
set_option maxRecDepth 100000 in
theorem wX0_house {res : Int32} {S' : so_St}  (a0 : Nat) (a1 : Int32) (a2 : Int32) (a3 : Nat)  (S : so_St) (k_a0 : a0 % 64 ∈ [0]) (k_a3 : a3 % 64 ∈ [53]) (hf : fX0_house a0 a1 a2 a3 S = some (res, S')) : jx_Sp 9 yX0_house (wsW_ yX0_house cX0_house 5 (Option.some Jvm.ClassFile.FieldType.int) [(0, 10, 13, 31), (0, 10, 17, 13)]) [.ref a0, .int a1, .int a2, .ref a3] S (.inl (some (.int res))) S' := by
  refine jx_ofW (by decide) (so_le rfl) ?_
  show jg_ (S, S', .inl (some (.int res))) kX0_house 0 [(0, .ref a0), (1, .int a1), (2, .int a2), (3, .ref a3)] [] S
  unfold fX0_house at hf
  refine jr_aload_n dX0_house_0 rfl rfl jv_rr ?_
  refine jr_iconst dX0_house_1 ic_0 ?_
  refine jr_aload_n dX0_house_2 rfl rfl jv_rr ?_
  refine jr_iload_n dX0_house_3 rfl rfl ?_
  refine jr_iload_n dX0_house_4 rfl rfl ?_
  rcases so_b3E hf with ⟨r1, S2, h5, hf⟩ | ⟨x3, S4, h5, hf⟩
  · refine jr_callM (st := [.int (0 : Int32), .ref a3]) lk_X0_27_0 (wX1_house a0 a1 a2 S k_a0 h5) k_a0 rfl rfl rfl (so_le rfl) (so_le rfl) dX0_house_5 ?_
    refine jr_i2l dX0_house_8 ?_
    obtain ⟨g8, hf⟩ := so_gdE hf
    refine jr_lastore (so_m1 k_a3) (so_inE g8) dX0_house_9 ?_
    refine so_let_e hf (fun S9 hf => ?_)
    refine jr_goto (tgt := 21) dX0_house_10 rfl ?_
    refine jr_iconst dX0_house_21 ic_0 ?_
    obtain ⟨rfl, rfl⟩ := so_e2 hf
    exact jr_iret rfl rfl dX0_house_22
  · refine jr_callMX (st := [.int (0 : Int32), .ref a3]) lk_X0_27_0 (wX1_house a0 a1 a2 S k_a0 h5) k_a0 rfl rfl rfl (so_le rfl) (so_le rfl) dX0_house_5 ?_
    by_cases c6 : x3 % 64 = 27
    · have hf := so_t c6 hf
      refine jr_catch (by rw [c6]; decide) (by rw [c6]; decide) [(⟨0, 10, 13, 31⟩ : ExceptionTableEntry)] ⟨0, 10, 17, 13⟩ [] rfl (List.forall_mem_cons.mpr ⟨Or.inr ⟨by decide, c6, q1698⟩, fun _ h => by cases h⟩) rfl (by decide) q863 (by rw [c6]; exact q181) ?_
      refine jr_astore (lv' := [(0, .ref a0), (1, .int a1), (2, .int a2), (3, .ref a3), (4, .ref x3)]) dX0_house_17 (so_le rfl) jv_rr rfl ?_
      refine jr_iconst dX0_house_19 ic_2 ?_
      obtain ⟨rfl, rfl⟩ := so_e2 hf
      exact jr_iret rfl rfl dX0_house_20
    · have hf := so_f c6 hf
      by_cases c7 : x3 % 64 = 28
      · have hf := so_t c7 hf
        refine jr_catch (by rw [c7]; decide) (by rw [c7]; decide) [] ⟨0, 10, 13, 31⟩ [(⟨0, 10, 17, 13⟩ : ExceptionTableEntry)] rfl (fun _ h => by cases h) rfl (by decide) q1698 (by rw [c7]; exact q1713) ?_
        refine jr_astore (lv' := [(0, .ref a0), (1, .int a1), (2, .int a2), (3, .ref a3), (4, .ref x3)]) dX0_house_13 (so_le rfl) jv_rr rfl ?_
        refine jr_iconst dX0_house_15 ic_1 ?_
        obtain ⟨rfl, rfl⟩ := so_e2 hf
        exact jr_iret rfl rfl dX0_house_16
      · have hf := so_f c7 hf
        exact so_no hf
