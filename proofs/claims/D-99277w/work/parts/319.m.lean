/-! printed: functions and walks -/
set_option maxRecDepth 100000
set_option linter.unusedVariables false
/- X8_takesSign -/
abbrev kX8_takesSign : jx_K := (cX8_takesSign, 3, RX8, 2, (Option.some Jvm.ClassFile.FieldType.boolean), "takesSign", [])
def fX8_takesSign (a1 : Int32) (sg : tm_S) : Option (Int32 × tm_S) :=
  if (sg 0 5) = (0 : Int32) then
  ((fX8_blanks sg).bind fun S4 =>
  (fX8_byteAt (S4 0 4) S4).bind fun r6 =>
  so_j (κ := Int32 → Option (Int32 × tm_S)) (ρ := Option (Int32 × tm_S)) (fun (v7 : Int32) =>
  if v7 = (0 : Int32) then
  (so_gd (so_01 v7) fun _ =>
  some (v7, S4))
  else
  (tm_let (tm_up S4 0 4 ((S4 0 4) + (1 : Int32))) fun S11 =>
  so_gd (so_01 v7) fun _ =>
  some (v7, S11)))
  (fun J8 =>
  if r6 = a1 then
  (J8 (1 : Int32))
  else
  (J8 (0 : Int32))))
  else
  (some ((0 : Int32), sg))
set_option maxHeartbeats 4000000 in
set_option maxRecDepth 100000 in
theorem wX8_takesSign {res : Int32} {sg' : tm_S} {S0 : so_St}  (a1 : Int32) (hT : tm_Sh S0) (sg : tm_S)  (hf : fX8_takesSign a1 sg = some (res, sg')) : jx_Sp 2 yX8_takesSign (ws_ yX8_takesSign cX8_takesSign 3 (Option.some Jvm.ClassFile.FieldType.boolean)) [.ref (tm_a 0), .int a1] (tm_j S0 sg) (.inl (some (.int res))) (tm_j S0 sg') := by
  refine jx_of (plainFor_of_name (by decide)) (so_le rfl) ?_
  show jg_ ((tm_j S0 sg), (tm_j S0 sg'), .inl (some (.int res))) kX8_takesSign 0 [(0, .ref (tm_a 0)), (1, .int a1)] [] (tm_j S0 sg)
  unfold fX8_takesSign at hf
  refine jr_aload_n dX8_takesSign_0 rfl rfl jv_rr ?_
  refine tr_getI fl_X8_122_23 dX8_takesSign_1 ?_
  refine jr_if_eq (tgt := 9) dX8_takesSign_4 rfl (fun c1 => ?_) (fun c1 => ?_)
  · have hf := so_t c1 hf
    refine jr_aload_n dX8_takesSign_9 rfl rfl jv_rr ?_
    obtain ⟨S4, h2, hf⟩ := so_b hf
    refine jr_callM (st := []) lk_X8_128_23 (wX8_blanks hT sg h2) tm_k23 rfl rfl rfl (so_le rfl) (so_le rfl) dX8_takesSign_10 ?_
    refine jr_aload_n dX8_takesSign_13 rfl rfl jv_rr ?_
    refine jr_aload_n dX8_takesSign_14 rfl rfl jv_rr ?_
    refine tr_getI fl_X8_115_23 dX8_takesSign_15 ?_
    obtain ⟨r6, h5, hf⟩ := so_b hf
    refine jr_callM (st := []) lk_X8_118_23 (wX8_byteAt (S4 0 4) hT S4 h5) tm_k23 rfl rfl rfl (so_le rfl) (so_le rfl) dX8_takesSign_18 ?_
    refine jr_iload_n dX8_takesSign_21 rfl rfl ?_
    refine so_jE hf (fun J => ∀ (v7 : Int32), J v7 = some (res, sg') → jg_ (tm_j S0 sg, tm_j S0 sg', .inl (some (.int res))) kX8_takesSign 30 [(0, .ref (tm_a 0))] [.int v7] (tm_j S0 S4)) (fun v7 hf => ?_) (fun J8 hJ8 hf => ?_)
    · refine jr_istore_n (lv' := [(0, .ref (tm_a 0)), (2, .int v7)]) dX8_takesSign_30 rfl (so_le rfl) rfl ?_
      refine jr_iload_n dX8_takesSign_31 rfl rfl ?_
      refine jr_if_eq (tgt := 45) dX8_takesSign_32 rfl (fun c9 => ?_) (fun c9 => ?_)
      · have hf := so_t c9 hf
        refine jr_iload_n dX8_takesSign_45 rfl rfl ?_
        obtain ⟨g10, hf⟩ := so_gdE hf
        obtain ⟨rfl, rfl⟩ := so_e2 hf
        exact jr_iret rfl (so_01n (so_01E g10)) dX8_takesSign_46
      · have hf := so_f c9 hf
        refine jr_aload_n dX8_takesSign_35 rfl rfl jv_rr ?_
        refine jr_dup dX8_takesSign_36 rfl ?_
        refine tr_getI fl_X8_115_23 dX8_takesSign_37 ?_
        refine jr_iconst dX8_takesSign_40 ic_1 ?_
        refine jr_iadd dX8_takesSign_41 ?_
        refine tr_putI fp_X8_115_23 dX8_takesSign_42 ?_
        refine tm_let_e hf (fun S11 hf => ?_)
        refine jr_iload_n dX8_takesSign_45 rfl rfl ?_
        obtain ⟨g12, hf⟩ := so_gdE hf
        obtain ⟨rfl, rfl⟩ := so_e2 hf
        exact jr_iret rfl (so_01n (so_01E g12)) dX8_takesSign_46
    · refine jr_icmp_ne (tgt := 29) dX8_takesSign_22 rfl (fun c13 => ?_) (fun c13 => ?_)
      · have hf := so_f c13 hf
        refine jr_iconst dX8_takesSign_29 ic_0 ?_
        refine jr_sub [0] rfl ?_
        exact hJ8 (0 : Int32) hf
      · have hf := so_t c13 hf
        refine jr_iconst dX8_takesSign_25 ic_1 ?_
        refine jr_goto (tgt := 30) dX8_takesSign_26 rfl ?_
        refine jr_sub [0] rfl ?_
        exact hJ8 (1 : Int32) hf
  · have hf := so_f c1 hf
    refine jr_iconst dX8_takesSign_7 ic_0 ?_
    obtain ⟨rfl, rfl⟩ := so_e2 hf
    exact jr_iret rfl rfl dX8_takesSign_8

/- X8_product -/
abbrev kX8_product (d0 : Nat) : jx_K := (cX8_product, 2, RX8, d0 + 7, (Option.none : Option Jvm.ClassFile.FieldType), "product", [])
def LX8_product_4 (rec : tm_S → Option tm_S)  : Nat → tm_S → Option tm_S
  | 0, _ => none
  | n + 1, S4 =>
    if (S4 0 5) = (0 : Int32) then
    (tm_b2 (fX8_takesSign (42 : Int32) S4) fun r7 S8 =>
    so_j (κ := Int32 → tm_S → Option tm_S) (ρ := Option tm_S) (fun (v9 : Int32) (S10 : tm_S) =>
    if v9 = (-1 : Int32) then
    (some S10)
    else
    ((fX8_one rec S10).bind fun S15 =>
    (fX8_notes v9 (0 : Int32) S15).bind fun S18 =>
    LX8_product_4 rec n S18))
    (fun J11 =>
    if r7 = (0 : Int32) then
    (tm_b2 (fX8_takesSign (47 : Int32) S8) fun r21 S22 =>
    if r21 = (0 : Int32) then
    (tm_b2 (fX8_takesSign (37 : Int32) S22) fun r25 S26 =>
    if r25 = (0 : Int32) then
    (J11 (-1 : Int32) S26)
    else
    (J11 (6 : Int32) S26))
    else
    (J11 (5 : Int32) S22))
    else
    (J11 (4 : Int32) S8)))
    else
    (some S4)
set_option maxHeartbeats 4000000 in
set_option maxRecDepth 100000 in
theorem wX8_product_4 {d0 : Nat} {sg' : tm_S} {S0 : so_St} {sg0 : tm_S}  {rec : tm_S → Option tm_S} (hrec : ∀ {S0 : so_St} (hT : tm_Sh S0) (sg : tm_S), ∀ {sg' : tm_S}, rec sg = some sg' → jx_Sp d0 yX8_sum (ws_ yX8_sum cX8_sum 2 (Option.none : Option Jvm.ClassFile.FieldType)) [.ref (tm_a 0)] (tm_j S0 sg) (.inl none) (tm_j S0 sg'))  (hT : tm_Sh S0)   : ∀ (n : Nat) (S4 : tm_S), LX8_product_4 rec n S4 = some sg' → jg_ (tm_j S0 sg0, tm_j S0 sg', .inl none) (kX8_product d0) 4 [(0, .ref (tm_a 0))] [] (tm_j S0 S4) := by
  intro n
  induction n with
  | zero =>
    intro S4 hf
    exact so_no hf
  | succ n ih =>
    intro S4 hf
    rw [LX8_product_4] at hf
    refine jr_aload_n dX8_product_4 rfl rfl jv_rr ?_
    refine tr_getI fl_X8_122_23 dX8_product_5 ?_
    refine jr_if_ne (tgt := 72) dX8_product_8 rfl (fun c5 => ?_) (fun c5 => ?_)
    · have hf := so_f c5 hf
      obtain rfl := so_e1 hf
      exact jr_vret rfl dX8_product_72
    · have hf := so_t c5 hf
      refine jr_aload_n dX8_product_11 rfl rfl jv_rr ?_
      refine jr_bipush dX8_product_12 bp_42 ?_
      obtain ⟨r7, S8, h6, hf⟩ := tm_b2E hf
      refine jr_callM (st := []) lk_X8_227_23 (wX8_takesSign (42 : Int32) hT S4 h6) tm_k23 rfl rfl rfl (so_le rfl) (show 2 + 1 ≤ d0 + 7 by omega) dX8_product_14 ?_
      refine so_jE hf (fun J => ∀ (v9 : Int32) (S10 : tm_S), J v9 S10 = some sg' → jg_ (tm_j S0 sg0, tm_j S0 sg', .inl none) (kX8_product d0) 52 [(0, .ref (tm_a 0))] [.int v9] (tm_j S0 S10)) (fun v9 S10 hf => ?_) (fun J11 hJ11 hf => ?_)
      · refine jr_istore_n (lv' := [(0, .ref (tm_a 0)), (1, .int v9)]) dX8_product_52 rfl (so_le rfl) rfl ?_
        refine jr_iload_n dX8_product_53 rfl rfl ?_
        refine jr_iconst dX8_product_54 ic_m1 ?_
        refine jr_icmp_ne (tgt := 59) dX8_product_55 rfl (fun c12 => ?_) (fun c12 => ?_)
        · have hf := so_f c12 hf
          refine jr_aload_n dX8_product_59 rfl rfl jv_rr ?_
          obtain ⟨S15, h13, hf⟩ := so_b hf
          refine jr_callM (st := []) lk_X8_233_23 (wX8_one hrec hT S10 h13) tm_k23 rfl rfl rfl (so_le rfl) (show d0 + 6 + 1 ≤ d0 + 7 by omega) dX8_product_60 ?_
          refine jr_aload_n dX8_product_63 rfl rfl jv_rr ?_
          refine jr_iload_n dX8_product_64 rfl rfl ?_
          refine jr_iconst dX8_product_65 ic_0 ?_
          obtain ⟨S18, h16, hf⟩ := so_b hf
          refine jr_callM (st := []) lk_X8_230_23 (wX8_notes v9 (0 : Int32) hT S15 h16) tm_k23 rfl rfl rfl (so_le rfl) (show 0 + 1 ≤ d0 + 7 by omega) dX8_product_66 ?_
          refine jr_goto (tgt := 4) dX8_product_69 rfl ?_
          refine jr_sub [0] rfl ?_
          exact ih S18 hf
        · have hf := so_t c12 hf
          obtain rfl := so_e1 hf
          exact jr_vret rfl dX8_product_58
      · refine jr_if_eq (tgt := 24) dX8_product_17 rfl (fun c19 => ?_) (fun c19 => ?_)
        · have hf := so_t c19 hf
          refine jr_aload_n dX8_product_24 rfl rfl jv_rr ?_
          refine jr_bipush dX8_product_25 bp_47 ?_
          obtain ⟨r21, S22, h20, hf⟩ := tm_b2E hf
          refine jr_callM (st := []) lk_X8_227_23 (wX8_takesSign (47 : Int32) hT S8 h20) tm_k23 rfl rfl rfl (so_le rfl) (show 2 + 1 ≤ d0 + 7 by omega) dX8_product_27 ?_
          refine jr_if_eq (tgt := 37) dX8_product_30 rfl (fun c23 => ?_) (fun c23 => ?_)
          · have hf := so_t c23 hf
            refine jr_aload_n dX8_product_37 rfl rfl jv_rr ?_
            refine jr_bipush dX8_product_38 bp_37 ?_
            obtain ⟨r25, S26, h24, hf⟩ := tm_b2E hf
            refine jr_callM (st := []) lk_X8_227_23 (wX8_takesSign (37 : Int32) hT S22 h24) tm_k23 rfl rfl rfl (so_le rfl) (show 2 + 1 ≤ d0 + 7 by omega) dX8_product_40 ?_
            refine jr_if_eq (tgt := 51) dX8_product_43 rfl (fun c27 => ?_) (fun c27 => ?_)
            · have hf := so_t c27 hf
              refine jr_iconst dX8_product_51 ic_m1 ?_
              exact hJ11 (-1 : Int32) S26 hf
            · have hf := so_f c27 hf
              refine jr_bipush dX8_product_46 bp_6 ?_
              refine jr_goto (tgt := 52) dX8_product_48 rfl ?_
              exact hJ11 (6 : Int32) S26 hf
          · have hf := so_f c23 hf
            refine jr_iconst dX8_product_33 ic_5 ?_
            refine jr_goto (tgt := 52) dX8_product_34 rfl ?_
            exact hJ11 (5 : Int32) S22 hf
        · have hf := so_f c19 hf
          refine jr_iconst dX8_product_20 ic_4 ?_
          refine jr_goto (tgt := 52) dX8_product_21 rfl ?_
          exact hJ11 (4 : Int32) S8 hf
def fX8_product (rec : tm_S → Option tm_S)  (sg : tm_S) : Option tm_S :=
  (fX8_one rec sg).bind fun S3 =>
  LX8_product_4 rec so_N S3
set_option maxHeartbeats 4000000 in
set_option maxRecDepth 100000 in
theorem wX8_product {d0 : Nat} {sg' : tm_S} {S0 : so_St} {rec : tm_S → Option tm_S} (hrec : ∀ {S0 : so_St} (hT : tm_Sh S0) (sg : tm_S), ∀ {sg' : tm_S}, rec sg = some sg' → jx_Sp d0 yX8_sum (ws_ yX8_sum cX8_sum 2 (Option.none : Option Jvm.ClassFile.FieldType)) [.ref (tm_a 0)] (tm_j S0 sg) (.inl none) (tm_j S0 sg'))  (hT : tm_Sh S0) (sg : tm_S)  (hf : fX8_product rec sg = some sg') : jx_Sp (d0 + 7) yX8_product (ws_ yX8_product cX8_product 2 (Option.none : Option Jvm.ClassFile.FieldType)) [.ref (tm_a 0)] (tm_j S0 sg) (.inl none) (tm_j S0 sg') := by
  refine jx_of (plainFor_of_name (by decide)) (so_le rfl) ?_
  show jg_ ((tm_j S0 sg), (tm_j S0 sg'), .inl none) (kX8_product d0) 0 [(0, .ref (tm_a 0))] [] (tm_j S0 sg)
  unfold fX8_product at hf
  refine jr_aload_n dX8_product_0 rfl rfl jv_rr ?_
  obtain ⟨S3, h1, hf⟩ := so_b hf
  refine jr_callM (st := []) lk_X8_233_23 (wX8_one hrec hT sg h1) tm_k23 rfl rfl rfl (so_le rfl) (show d0 + 6 + 1 ≤ d0 + 7 by omega) dX8_product_1 ?_
  refine wX8_product_4 hrec hT so_N S3 hf

/- X8_sum -/
abbrev kX8_sum (d0 : Nat) : jx_K := (cX8_sum, 2, RX8, d0 + 8, (Option.none : Option Jvm.ClassFile.FieldType), "sum", [])
def LX8_sum_4 (rec : tm_S → Option tm_S)  : Nat → tm_S → Option tm_S
  | 0, _ => none
  | n + 1, S4 =>
    if (S4 0 5) = (0 : Int32) then
    (tm_b2 (fX8_takesSign (43 : Int32) S4) fun r7 S8 =>
    so_j (κ := Int32 → tm_S → Option tm_S) (ρ := Option tm_S) (fun (v9 : Int32) (S10 : tm_S) =>
    if v9 = (-1 : Int32) then
    (some S10)
    else
    ((fX8_product rec S10).bind fun S15 =>
    (fX8_notes v9 (0 : Int32) S15).bind fun S18 =>
    LX8_sum_4 rec n S18))
    (fun J11 =>
    if r7 = (0 : Int32) then
    (tm_b2 (fX8_takesSign (45 : Int32) S8) fun r21 S22 =>
    if r21 = (0 : Int32) then
    (J11 (-1 : Int32) S22)
    else
    (J11 (3 : Int32) S22))
    else
    (J11 (2 : Int32) S8)))
    else
    (some S4)
set_option maxHeartbeats 4000000 in
set_option maxRecDepth 100000 in
theorem wX8_sum_4 {d0 : Nat} {sg' : tm_S} {S0 : so_St} {sg0 : tm_S}  {rec : tm_S → Option tm_S} (hrec : ∀ {S0 : so_St} (hT : tm_Sh S0) (sg : tm_S), ∀ {sg' : tm_S}, rec sg = some sg' → jx_Sp d0 yX8_sum (ws_ yX8_sum cX8_sum 2 (Option.none : Option Jvm.ClassFile.FieldType)) [.ref (tm_a 0)] (tm_j S0 sg) (.inl none) (tm_j S0 sg'))  (hT : tm_Sh S0)   : ∀ (n : Nat) (S4 : tm_S), LX8_sum_4 rec n S4 = some sg' → jg_ (tm_j S0 sg0, tm_j S0 sg', .inl none) (kX8_sum d0) 4 [(0, .ref (tm_a 0))] [] (tm_j S0 S4) := by
  intro n
  induction n with
  | zero =>
    intro S4 hf
    exact so_no hf
  | succ n ih =>
    intro S4 hf
    rw [LX8_sum_4] at hf
    refine jr_aload_n dX8_sum_4 rfl rfl jv_rr ?_
    refine tr_getI fl_X8_122_23 dX8_sum_5 ?_
    refine jr_if_ne (tgt := 58) dX8_sum_8 rfl (fun c5 => ?_) (fun c5 => ?_)
    · have hf := so_f c5 hf
      obtain rfl := so_e1 hf
      exact jr_vret rfl dX8_sum_58
    · have hf := so_t c5 hf
      refine jr_aload_n dX8_sum_11 rfl rfl jv_rr ?_
      refine jr_bipush dX8_sum_12 bp_43 ?_
      obtain ⟨r7, S8, h6, hf⟩ := tm_b2E hf
      refine jr_callM (st := []) lk_X8_227_23 (wX8_takesSign (43 : Int32) hT S4 h6) tm_k23 rfl rfl rfl (so_le rfl) (show 2 + 1 ≤ d0 + 8 by omega) dX8_sum_14 ?_
      refine so_jE hf (fun J => ∀ (v9 : Int32) (S10 : tm_S), J v9 S10 = some sg' → jg_ (tm_j S0 sg0, tm_j S0 sg', .inl none) (kX8_sum d0) 38 [(0, .ref (tm_a 0))] [.int v9] (tm_j S0 S10)) (fun v9 S10 hf => ?_) (fun J11 hJ11 hf => ?_)
      · refine jr_istore_n (lv' := [(0, .ref (tm_a 0)), (1, .int v9)]) dX8_sum_38 rfl (so_le rfl) rfl ?_
        refine jr_iload_n dX8_sum_39 rfl rfl ?_
        refine jr_iconst dX8_sum_40 ic_m1 ?_
        refine jr_icmp_ne (tgt := 45) dX8_sum_41 rfl (fun c12 => ?_) (fun c12 => ?_)
        · have hf := so_f c12 hf
          refine jr_aload_n dX8_sum_45 rfl rfl jv_rr ?_
          obtain ⟨S15, h13, hf⟩ := so_b hf
          refine jr_callM (st := []) lk_X8_224_23 (wX8_product hrec hT S10 h13) tm_k23 rfl rfl rfl (so_le rfl) (show d0 + 7 + 1 ≤ d0 + 8 by omega) dX8_sum_46 ?_
          refine jr_aload_n dX8_sum_49 rfl rfl jv_rr ?_
          refine jr_iload_n dX8_sum_50 rfl rfl ?_
          refine jr_iconst dX8_sum_51 ic_0 ?_
          obtain ⟨S18, h16, hf⟩ := so_b hf
          refine jr_callM (st := []) lk_X8_230_23 (wX8_notes v9 (0 : Int32) hT S15 h16) tm_k23 rfl rfl rfl (so_le rfl) (show 0 + 1 ≤ d0 + 8 by omega) dX8_sum_52 ?_
          refine jr_goto (tgt := 4) dX8_sum_55 rfl ?_
          refine jr_sub [0] rfl ?_
          exact ih S18 hf
        · have hf := so_t c12 hf
          obtain rfl := so_e1 hf
          exact jr_vret rfl dX8_sum_44
      · refine jr_if_eq (tgt := 24) dX8_sum_17 rfl (fun c19 => ?_) (fun c19 => ?_)
        · have hf := so_t c19 hf
          refine jr_aload_n dX8_sum_24 rfl rfl jv_rr ?_
          refine jr_bipush dX8_sum_25 bp_45 ?_
          obtain ⟨r21, S22, h20, hf⟩ := tm_b2E hf
          refine jr_callM (st := []) lk_X8_227_23 (wX8_takesSign (45 : Int32) hT S8 h20) tm_k23 rfl rfl rfl (so_le rfl) (show 2 + 1 ≤ d0 + 8 by omega) dX8_sum_27 ?_
          refine jr_if_eq (tgt := 37) dX8_sum_30 rfl (fun c23 => ?_) (fun c23 => ?_)
          · have hf := so_t c23 hf
            refine jr_iconst dX8_sum_37 ic_m1 ?_
            exact hJ11 (-1 : Int32) S22 hf
          · have hf := so_f c23 hf
            refine jr_iconst dX8_sum_33 ic_3 ?_
            refine jr_goto (tgt := 38) dX8_sum_34 rfl ?_
            exact hJ11 (3 : Int32) S22 hf
        · have hf := so_f c19 hf
          refine jr_iconst dX8_sum_20 ic_2 ?_
          refine jr_goto (tgt := 38) dX8_sum_21 rfl ?_
          exact hJ11 (2 : Int32) S8 hf
def fX8_sum (rec : tm_S → Option tm_S)  (sg : tm_S) : Option tm_S :=
  (fX8_product rec sg).bind fun S3 =>
  LX8_sum_4 rec so_N S3
set_option maxHeartbeats 4000000 in
set_option maxRecDepth 100000 in
theorem wX8_sum {d0 : Nat} {sg' : tm_S} {S0 : so_St} {rec : tm_S → Option tm_S} (hrec : ∀ {S0 : so_St} (hT : tm_Sh S0) (sg : tm_S), ∀ {sg' : tm_S}, rec sg = some sg' → jx_Sp d0 yX8_sum (ws_ yX8_sum cX8_sum 2 (Option.none : Option Jvm.ClassFile.FieldType)) [.ref (tm_a 0)] (tm_j S0 sg) (.inl none) (tm_j S0 sg'))  (hT : tm_Sh S0) (sg : tm_S)  (hf : fX8_sum rec sg = some sg') : jx_Sp (d0 + 8) yX8_sum (ws_ yX8_sum cX8_sum 2 (Option.none : Option Jvm.ClassFile.FieldType)) [.ref (tm_a 0)] (tm_j S0 sg) (.inl none) (tm_j S0 sg') := by
  refine jx_of (plainFor_of_name (by decide)) (so_le rfl) ?_
  show jg_ ((tm_j S0 sg), (tm_j S0 sg'), .inl none) (kX8_sum d0) 0 [(0, .ref (tm_a 0))] [] (tm_j S0 sg)
  unfold fX8_sum at hf
  refine jr_aload_n dX8_sum_0 rfl rfl jv_rr ?_
  obtain ⟨S3, h1, hf⟩ := so_b hf
  refine jr_callM (st := []) lk_X8_224_23 (wX8_product hrec hT sg h1) tm_k23 rfl rfl rfl (so_le rfl) (show d0 + 7 + 1 ≤ d0 + 8 by omega) dX8_sum_1 ?_
  refine wX8_sum_4 hrec hT so_N S3 hf

/- C:X8_sum -/
def fcX8_sum : Nat → tm_S → Option tm_S
  | 0 => fun _ => none
  | n + 1 => fX8_sum (fcX8_sum n)
theorem wcX8_sum : ∀ (n : Nat), ∀ {S0 : so_St} (hT : tm_Sh S0) (sg : tm_S), ∀ {sg' : tm_S}, fcX8_sum n sg = some sg' → jx_Sp (8 * n) yX8_sum (ws_ yX8_sum cX8_sum 2 (Option.none : Option Jvm.ClassFile.FieldType)) [.ref (tm_a 0)] (tm_j S0 sg) (.inl none) (tm_j S0 sg') := by
  intro n
  induction n with
  | zero =>
    intros
    rename_i hf
    exact so_no hf
  | succ n ih =>
    exact fun hT sg _ hf => wX8_sum ih hT sg hf


/- X8_law -/
abbrev kX8_law : jx_K := (cX8_law, 2, RX8, 97, (Option.some Jvm.ClassFile.FieldType.int), "law", [])
def fX8_law (a1 : Int32) (sg : tm_S) : Option (Int32 × tm_S) :=
  tm_let (tm_up sg 0 0 (0 : Int32)) fun S1 =>
  so_j (κ := Int32 → Option (Int32 × tm_S)) (ρ := Option (Int32 × tm_S)) (fun (v2 : Int32) =>
  tm_b2 (fX8_bad v2 (1 : Int32) (1 : Int32) S1) fun r5 S6 =>
  if r5 = (0 : Int32) then
  ((fX8_starts a1 S6).bind fun S10 =>
  tm_let (tm_up S10 0 22 (0 : Int32)) fun S11 =>
  (fcX8_sum 12 S11).bind fun S14 =>
  (fX8_blanks S14).bind fun S17 =>
  so_j (κ := tm_S → Option (Int32 × tm_S)) (ρ := Option (Int32 × tm_S)) (fun (S18 : tm_S) =>
  if (S18 0 5) = (0 : Int32) then
  (tm_let (tm_up S18 0 3 (-1 : Int32)) fun S21 =>
  tm_let (tm_up S21 0 21 (S21 0 22)) fun S22 =>
  (fX8_lays 210 49 (S22 0 21) S22).bind fun S25 =>
  some ((1 : Int32), S25))
  else
  (tm_b2 (fX8_ends S18) fun r27 S28 =>
  some (r27, S28)))
  (fun J19 =>
  if (S17 0 5) = (0 : Int32) then
  (if (S17 0 2) ≤ (S17 0 4) then
  (J19 S17)
  else
  ((fX8_wrong (1 : Int32) (S17 0 4) S17).bind fun S33 =>
  J19 S33))
  else
  (J19 S17)))
  else
  (some ((0 : Int32), S6)))
  (fun J3 =>
  so_j (κ := Unit → Option (Int32 × tm_S)) (ρ := Option (Int32 × tm_S)) (fun (_u : Unit) =>
  J3 (1 : Int32))
  (fun J34 =>
  if (fX8_in a1 (0 : Int32) (S1 0 1)) = (0 : Int32) then
  (J34 ())
  else
  (if a1 ≤ (150 : Int32) then
  (J3 (0 : Int32))
  else
  (J34 ()))))
set_option maxHeartbeats 4000000 in
set_option maxRecDepth 100000 in
theorem wX8_law {res : Int32} {sg' : tm_S} {S0 : so_St}  (a1 : Int32) (hT : tm_Sh S0) (sg : tm_S)  (hf : fX8_law a1 sg = some (res, sg')) : jx_Sp 97 yX8_law (ws_ yX8_law cX8_law 2 (Option.some Jvm.ClassFile.FieldType.int)) [.ref (tm_a 0), .int a1] (tm_j S0 sg) (.inl (some (.int res))) (tm_j S0 sg') := by
  refine jx_of (plainFor_of_name (by decide)) (so_le rfl) ?_
  show jg_ ((tm_j S0 sg), (tm_j S0 sg'), .inl (some (.int res))) kX8_law 0 [(0, .ref (tm_a 0)), (1, .int a1)] [] (tm_j S0 sg)
  unfold fX8_law at hf
  refine jr_aload_n dX8_law_0 rfl rfl jv_rr ?_
  refine jr_iconst dX8_law_1 ic_0 ?_
  refine tr_putI fp_X8_106_23 dX8_law_2 ?_
  refine tm_let_e hf (fun S1 hf => ?_)
  refine jr_aload_n dX8_law_5 rfl rfl jv_rr ?_
  refine jr_iload_n dX8_law_6 rfl rfl ?_
  refine jr_iconst dX8_law_7 ic_0 ?_
  refine jr_aload_n dX8_law_8 rfl rfl jv_rr ?_
  refine tr_getI fl_X8_109_23 dX8_law_9 ?_
  refine jr_call (st := [.ref (tm_a 0)]) lk_X8_140 (wX8_in a1 (0 : Int32) (S1 0 1) hT S1 rfl) jk_r0 rfl rfl (so_le rfl) (so_le rfl) dX8_law_12 ?_
  refine so_jE hf (fun J => ∀ (v2 : Int32), J v2 = some (res, sg') → jg_ (tm_j S0 sg, tm_j S0 sg', .inl (some (.int res))) kX8_law 30 [(0, .ref (tm_a 0)), (1, .int a1)] [.int v2, .ref (tm_a 0)] (tm_j S0 S1)) (fun v2 hf => ?_) (fun J3 hJ3 hf => ?_)
  · refine jr_iconst dX8_law_30 ic_1 ?_
    refine jr_iconst dX8_law_31 ic_1 ?_
    obtain ⟨r5, S6, h4, hf⟩ := tm_b2E hf
    refine jr_callM (st := []) lk_X8_189_23 (wX8_bad v2 (1 : Int32) (1 : Int32) hT S1 h4) tm_k23 rfl rfl rfl (so_le rfl) (so_le rfl) dX8_law_32 ?_
    refine jr_if_eq (tgt := 40) dX8_law_35 rfl (fun c7 => ?_) (fun c7 => ?_)
    · have hf := so_t c7 hf
      refine jr_aload_n dX8_law_40 rfl rfl jv_rr ?_
      refine jr_iload_n dX8_law_41 rfl rfl ?_
      obtain ⟨S10, h8, hf⟩ := so_b hf
      refine jr_callM (st := []) lk_X8_193_23 (wX8_starts a1 hT S6 h8) tm_k23 rfl rfl rfl (so_le rfl) (so_le rfl) dX8_law_42 ?_
      refine jr_aload_n dX8_law_45 rfl rfl jv_rr ?_
      refine jr_iconst dX8_law_46 ic_0 ?_
      refine tr_putI fp_X8_221_23 dX8_law_47 ?_
      refine tm_let_e hf (fun S11 hf => ?_)
      refine jr_aload_n dX8_law_50 rfl rfl jv_rr ?_
      obtain ⟨S14, h12, hf⟩ := so_b hf
      refine jr_callM (st := []) lk_X8_243_23 (wcX8_sum 12 hT S11 h12) tm_k23 rfl rfl rfl (so_le rfl) (so_le rfl) dX8_law_51 ?_
      refine jr_aload_n dX8_law_54 rfl rfl jv_rr ?_
      obtain ⟨S17, h15, hf⟩ := so_b hf
      refine jr_callM (st := []) lk_X8_128_23 (wX8_blanks hT S14 h15) tm_k23 rfl rfl rfl (so_le rfl) (so_le rfl) dX8_law_55 ?_
      refine jr_aload_n dX8_law_58 rfl rfl jv_rr ?_
      refine tr_getI fl_X8_122_23 dX8_law_59 ?_
      refine so_jE hf (fun J => ∀ (S18 : tm_S), J S18 = some (res, sg') → jg_ (tm_j S0 sg, tm_j S0 sg', .inl (some (.int res))) kX8_law 85 [(0, .ref (tm_a 0))] [] (tm_j S0 S18)) (fun S18 hf => ?_) (fun J19 hJ19 hf => ?_)
      · refine jr_aload_n dX8_law_85 rfl rfl jv_rr ?_
        refine tr_getI fl_X8_122_23 dX8_law_86 ?_
        refine jr_if_eq (tgt := 97) dX8_law_89 rfl (fun c20 => ?_) (fun c20 => ?_)
        · have hf := so_t c20 hf
          refine jr_aload_n dX8_law_97 rfl rfl jv_rr ?_
          refine jr_iconst dX8_law_98 ic_m1 ?_
          refine tr_putI fp_X8_9_23 dX8_law_99 ?_
          refine tm_let_e hf (fun S21 hf => ?_)
          refine jr_aload_n dX8_law_102 rfl rfl jv_rr ?_
          refine jr_aload_n dX8_law_103 rfl rfl jv_rr ?_
          refine tr_getI fl_X8_221_23 dX8_law_104 ?_
          refine tr_putI fp_X8_206_23 dX8_law_107 ?_
          refine tm_let_e hf (fun S22 hf => ?_)
          refine jr_aload_n dX8_law_110 rfl rfl jv_rr ?_
          refine tr_getR (c := 210) hT (List.mem_of_getElem? (i := 13) rfl) fl_X8_55_23 dX8_law_111 ?_
          refine jr_aload_n dX8_law_114 rfl rfl jv_rr ?_
          refine tr_getR (c := 49) hT (List.mem_of_getElem? (i := 12) rfl) fl_X8_52_23 dX8_law_115 ?_
          refine jr_aload_n dX8_law_118 rfl rfl jv_rr ?_
          refine tr_getI fl_X8_206_23 dX8_law_119 ?_
          obtain ⟨S25, h23, hf⟩ := so_b hf
          refine jr_call (st := []) lk_X8_202 (wX8_lays 210 49 (S22 0 21) hT S22 (show tm_k 210 = 56 from rfl) (show tm_k 49 = 56 from rfl) h23) jk_r0 rfl rfl (so_le rfl) (so_le rfl) dX8_law_122 ?_
          refine jr_iconst dX8_law_125 ic_1 ?_
          obtain ⟨rfl, rfl⟩ := so_e2 hf
          exact jr_iret rfl rfl dX8_law_126
        · have hf := so_f c20 hf
          refine jr_aload_n dX8_law_92 rfl rfl jv_rr ?_
          obtain ⟨r27, S28, h26, hf⟩ := tm_b2E hf
          refine jr_callM (st := []) lk_X8_199_23 (wX8_ends hT S18 h26) tm_k23 rfl rfl rfl (so_le rfl) (so_le rfl) dX8_law_93 ?_
          obtain ⟨rfl, rfl⟩ := so_e2 hf
          exact jr_iret rfl rfl dX8_law_96
      · refine jr_if_ne (tgt := 85) dX8_law_62 rfl (fun c29 => ?_) (fun c29 => ?_)
        · have hf := so_f c29 hf
          refine jr_sub [0] rfl ?_
          exact hJ19 S17 hf
        · have hf := so_t c29 hf
          refine jr_aload_n dX8_law_65 rfl rfl jv_rr ?_
          refine tr_getI fl_X8_115_23 dX8_law_66 ?_
          refine jr_aload_n dX8_law_69 rfl rfl jv_rr ?_
          refine tr_getI fl_X8_112_23 dX8_law_70 ?_
          refine jr_icmp_ge (tgt := 85) dX8_law_73 rfl (fun c30 => ?_) (fun c30 => ?_)
          · have hf := so_t c30 hf
            refine jr_sub [0] rfl ?_
            exact hJ19 S17 hf
          · have hf := so_f c30 hf
            refine jr_aload_n dX8_law_76 rfl rfl jv_rr ?_
            refine jr_iconst dX8_law_77 ic_1 ?_
            refine jr_aload_n dX8_law_78 rfl rfl jv_rr ?_
            refine tr_getI fl_X8_115_23 dX8_law_79 ?_
            obtain ⟨S33, h31, hf⟩ := so_b hf
            refine jr_callM (st := []) lk_X8_135_23 (wX8_wrong (1 : Int32) (S17 0 4) hT S17 h31) tm_k23 rfl rfl rfl (so_le rfl) (so_le rfl) dX8_law_82 ?_
            refine jr_sub [0] rfl ?_
            exact hJ19 S33 hf
    · have hf := so_f c7 hf
      refine jr_iconst dX8_law_38 ic_0 ?_
      obtain ⟨rfl, rfl⟩ := so_e2 hf
      exact jr_iret rfl rfl dX8_law_39
  · refine so_jE hf (fun J => ∀ (u0 : Unit), J u0 = some (res, sg') → jg_ (tm_j S0 sg, tm_j S0 sg', .inl (some (.int res))) kX8_law 25 [(0, .ref (tm_a 0)), (1, .int a1)] [.ref (tm_a 0)] (tm_j S0 S1)) (fun _u hf => ?_) (fun J34 hJ34 hf => ?_)
    · refine jr_iconst dX8_law_25 ic_1 ?_
      refine jr_goto (tgt := 30) dX8_law_26 rfl ?_
      exact hJ3 (1 : Int32) hf
    · refine jr_if_eq (tgt := 25) dX8_law_15 rfl (fun c35 => ?_) (fun c35 => ?_)
      · have hf := so_t c35 hf
        exact hJ34 () hf
      · have hf := so_f c35 hf
        refine jr_iload_n dX8_law_18 rfl rfl ?_
        refine jr_sipush dX8_law_19 sp_150 ?_
        refine jr_icmp_le (tgt := 29) dX8_law_22 rfl (fun c36 => ?_) (fun c36 => ?_)
        · have hf := so_t c36 hf
          refine jr_iconst dX8_law_29 ic_0 ?_
          exact hJ3 (0 : Int32) hf
        · have hf := so_f c36 hf
          exact hJ34 () hf

/- X8_book -/
abbrev kX8_book : jx_K := (cX8_book, 6, RX8, 3, (Option.some Jvm.ClassFile.FieldType.int), "book", [])
def LX8_book_81 (f2 : Int32) (f3 : Int32) (f4 : Int32) (k120 : tm_S → Option (Int32 × tm_S)) : Nat → Int32 → tm_S → Option (Int32 × tm_S)
  | 0, _, _ => none
  | n + 1, v18, S19 =>
    if f2 ≤ v18 then
    (k120 S19)
    else
    (so_j (κ := tm_S → Option (Int32 × tm_S)) (ρ := Option (Int32 × tm_S)) (fun (S21 : tm_S) =>
    LX8_book_81 f2 f3 f4 k120 n (v18 + (1 : Int32)) S21)
    (fun J22 =>
    if (S19 0 5) = (0 : Int32) then
    (so_gd (so_in v18 6) fun _ =>
    so_gd (so_in (0 : Int32) 2) fun _ =>
    if (S19 (379 + v18.toNatClampNeg) (0 : Int32).toNatClampNeg) = f4 then
    ((fX8_wrong (2 : Int32) f3 S19).bind fun S29 =>
    J22 S29)
    else
    (J22 S19))
    else
    (J22 S19)))
set_option maxHeartbeats 4000000 in
set_option maxRecDepth 100000 in
theorem wX8_book_81 {res : Int32} {sg' : tm_S} {S0 : so_St} {sg0 : tm_S}   (f2 : Int32) (f3 : Int32) (f4 : Int32) (hT : tm_Sh S0)   (k120 : tm_S → Option (Int32 × tm_S)) (h120 : ∀ (S30 : tm_S), k120 S30 = some (res, sg') → jg_ (tm_j S0 sg0, tm_j S0 sg', .inl (some (.int res))) kX8_book 120 [(0, .ref (tm_a 0)), (2, .int f2), (3, .int f3), (4, .int f4)] [] (tm_j S0 S30)) : ∀ (n : Nat) (v18 : Int32) (S19 : tm_S), LX8_book_81 f2 f3 f4 k120 n v18 S19 = some (res, sg') → jg_ (tm_j S0 sg0, tm_j S0 sg', .inl (some (.int res))) kX8_book 81 [(0, .ref (tm_a 0)), (2, .int f2), (3, .int f3), (4, .int f4), (5, .int v18)] [] (tm_j S0 S19) := by
  intro n
  induction n with
  | zero =>
    intro v18 S19 hf
    exact so_no hf
  | succ n ih =>
    intro v18 S19 hf
    rw [LX8_book_81] at hf
    refine jr_iload dX8_book_81 rfl ?_
    refine jr_iload_n dX8_book_83 rfl rfl ?_
    refine jr_icmp_ge (tgt := 120) dX8_book_84 rfl (fun c20 => ?_) (fun c20 => ?_)
    · have hf := so_t c20 hf
      refine jr_sub [0, 1, 2, 3] rfl ?_
      exact h120 S19 hf
    · have hf := so_f c20 hf
      refine jr_aload_n dX8_book_87 rfl rfl jv_rr ?_
      refine tr_getI fl_X8_122_23 dX8_book_88 ?_
      refine so_jE hf (fun J => ∀ (S21 : tm_S), J S21 = some (res, sg') → jg_ (tm_j S0 sg0, tm_j S0 sg', .inl (some (.int res))) kX8_book 114 [(0, .ref (tm_a 0)), (2, .int f2), (3, .int f3), (4, .int f4), (5, .int v18)] [] (tm_j S0 S21)) (fun S21 hf => ?_) (fun J22 hJ22 hf => ?_)
      · refine jr_iinc (v := v18 + (1 : Int32)) (lv' := [(0, .ref (tm_a 0)), (2, .int f2), (3, .int f3), (4, .int f4), (5, .int (v18 + (1 : Int32)))]) dX8_book_114 rfl rfl (so_le rfl) rfl ?_
        refine jr_goto (tgt := 81) dX8_book_117 rfl ?_
        exact ih (v18 + (1 : Int32)) S21 hf
      · refine jr_if_ne (tgt := 114) dX8_book_91 rfl (fun c23 => ?_) (fun c23 => ?_)
        · have hf := so_f c23 hf
          exact hJ22 S19 hf
        · have hf := so_t c23 hf
          refine jr_aload_n dX8_book_94 rfl rfl jv_rr ?_
          refine tr_getR (c := 378) hT (List.mem_of_getElem? (i := 15) rfl) fl_X8_61_23 dX8_book_95 ?_
          refine jr_iload dX8_book_98 rfl ?_
          obtain ⟨g24, hf⟩ := so_gdE hf
          refine tr_aaload (g' := 379) hT (show tm_k 378 = 56 from rfl) rfl rfl (so_inE g24) dX8_book_100 ?_
          refine jr_iconst dX8_book_101 ic_0 ?_
          obtain ⟨g25, hf⟩ := so_gdE hf
          refine tr_iaload hT (tm_rk_378 (so_inE g24)) (tm_rl_378 (so_inE g24)) (so_inE g25) dX8_book_102 ?_
          refine jr_iload dX8_book_103 rfl ?_
          refine jr_icmp_ne (tgt := 114) dX8_book_105 rfl (fun c26 => ?_) (fun c26 => ?_)
          · have hf := so_f c26 hf
            exact hJ22 S19 hf
          · have hf := so_t c26 hf
            refine jr_aload_n dX8_book_108 rfl rfl jv_rr ?_
            refine jr_iconst dX8_book_109 ic_2 ?_
            refine jr_iload_n dX8_book_110 rfl rfl ?_
            obtain ⟨S29, h27, hf⟩ := so_b hf
            refine jr_callM (st := []) lk_X8_135_23 (wX8_wrong (2 : Int32) f3 hT S19 h27) tm_k23 rfl rfl rfl (so_le rfl) (so_le rfl) dX8_book_111 ?_
            exact hJ22 S29 hf
def LX8_book_46  (k191 : Int32 → tm_S → Option (Int32 × tm_S)) : Nat → Int32 → tm_S → Option (Int32 × tm_S)
  | 0, _, _ => none
  | n + 1, v11, S12 =>
    if (S12 0 5) = (0 : Int32) then
    (if (S12 0 2) ≤ (S12 0 4) then
    (k191 v11 S12)
    else
    (tm_b2 (fX8_number (0 : Int32) (60 : Int32) S12) fun r16 S17 =>
    LX8_book_81 v11 (S12 0 4) r16 (fun (S31 : tm_S) =>
    so_j (κ := tm_S → Option (Int32 × tm_S)) (ρ := Option (Int32 × tm_S)) (fun (S32 : tm_S) =>
    tm_b2 (fX8_number (0 : Int32) (99 : Int32) S32) fun r35 S36 =>
    (fX8_sign (59 : Int32) S36).bind fun S39 =>
    so_j (κ := Int32 → tm_S → Option (Int32 × tm_S)) (ρ := Option (Int32 × tm_S)) (fun (v40 : Int32) (S41 : tm_S) =>
    (fX8_blanks S41).bind fun S45 =>
    LX8_book_46 k191 n v40 S45)
    (fun J42 =>
    if (S39 0 5) = (0 : Int32) then
    (so_gd (so_in v11 6) fun _ =>
    so_gd (so_in (0 : Int32) 2) fun _ =>
    tm_let (tm_up S39 (379 + v11.toNatClampNeg) (0 : Int32).toNatClampNeg r16) fun S49 =>
    so_gd (so_in v11 6) fun _ =>
    so_gd (so_in (1 : Int32) 2) fun _ =>
    tm_let (tm_up S49 (379 + v11.toNatClampNeg) (1 : Int32).toNatClampNeg r35) fun S52 =>
    J42 (v11 + (1 : Int32)) S52)
    else
    (J42 v11 S39)))
    (fun J33 =>
    if (S31 0 5) = (0 : Int32) then
    (if v11 = (6 : Int32) then
    ((fX8_wrong (3 : Int32) (S12 0 4) S31).bind fun S57 =>
    J33 S57)
    else
    (J33 S31))
    else
    (J33 S31))) so_N (0 : Int32) S17))
    else
    (k191 v11 S12)
set_option maxHeartbeats 4000000 in
set_option maxRecDepth 100000 in
theorem wX8_book_46 {res : Int32} {sg' : tm_S} {S0 : so_St} {sg0 : tm_S}    (hT : tm_Sh S0)   (k191 : Int32 → tm_S → Option (Int32 × tm_S)) (h191 : ∀ (v58 : Int32) (S59 : tm_S), k191 v58 S59 = some (res, sg') → jg_ (tm_j S0 sg0, tm_j S0 sg', .inl (some (.int res))) kX8_book 191 [(0, .ref (tm_a 0)), (2, .int v58)] [] (tm_j S0 S59)) : ∀ (n : Nat) (v11 : Int32) (S12 : tm_S), LX8_book_46 k191 n v11 S12 = some (res, sg') → jg_ (tm_j S0 sg0, tm_j S0 sg', .inl (some (.int res))) kX8_book 46 [(0, .ref (tm_a 0)), (2, .int v11)] [] (tm_j S0 S12) := by
  intro n
  induction n with
  | zero =>
    intro v11 S12 hf
    exact so_no hf
  | succ n ih =>
    intro v11 S12 hf
    rw [LX8_book_46] at hf
    refine jr_aload_n dX8_book_46 rfl rfl jv_rr ?_
    refine tr_getI fl_X8_122_23 dX8_book_47 ?_
    refine jr_if_ne (tgt := 191) dX8_book_50 rfl (fun c13 => ?_) (fun c13 => ?_)
    · have hf := so_f c13 hf
      exact h191 v11 S12 hf
    · have hf := so_t c13 hf
      refine jr_aload_n dX8_book_53 rfl rfl jv_rr ?_
      refine tr_getI fl_X8_115_23 dX8_book_54 ?_
      refine jr_aload_n dX8_book_57 rfl rfl jv_rr ?_
      refine tr_getI fl_X8_112_23 dX8_book_58 ?_
      refine jr_icmp_ge (tgt := 191) dX8_book_61 rfl (fun c14 => ?_) (fun c14 => ?_)
      · have hf := so_t c14 hf
        exact h191 v11 S12 hf
      · have hf := so_f c14 hf
        refine jr_aload_n dX8_book_64 rfl rfl jv_rr ?_
        refine tr_getI fl_X8_115_23 dX8_book_65 ?_
        refine jr_istore_n (lv' := [(0, .ref (tm_a 0)), (2, .int v11), (3, .int (S12 0 4))]) dX8_book_68 rfl (so_le rfl) rfl ?_
        refine jr_aload_n dX8_book_69 rfl rfl jv_rr ?_
        refine jr_iconst dX8_book_70 ic_0 ?_
        refine jr_bipush dX8_book_71 bp_60 ?_
        obtain ⟨r16, S17, h15, hf⟩ := tm_b2E hf
        refine jr_callM (st := []) lk_X8_168_23 (wX8_number (0 : Int32) (60 : Int32) hT S12 h15) tm_k23 rfl rfl rfl (so_le rfl) (so_le rfl) dX8_book_73 ?_
        refine jr_istore (lv' := [(0, .ref (tm_a 0)), (2, .int v11), (3, .int (S12 0 4)), (4, .int r16)]) dX8_book_76 (so_le rfl) rfl ?_
        refine jr_iconst dX8_book_78 ic_0 ?_
        refine jr_istore (lv' := [(0, .ref (tm_a 0)), (2, .int v11), (3, .int (S12 0 4)), (4, .int r16), (5, .int (0 : Int32))]) dX8_book_79 (so_le rfl) rfl ?_
        refine wX8_book_81 v11 (S12 0 4) r16 hT _ (fun S31 hf => ?_) so_N (0 : Int32) S17 hf
        refine jr_aload_n dX8_book_120 rfl rfl jv_rr ?_
        refine tr_getI fl_X8_122_23 dX8_book_121 ?_
        refine so_jE hf (fun J => ∀ (S32 : tm_S), J S32 = some (res, sg') → jg_ (tm_j S0 sg0, tm_j S0 sg', .inl (some (.int res))) kX8_book 139 [(0, .ref (tm_a 0)), (2, .int v11), (4, .int r16)] [] (tm_j S0 S32)) (fun S32 hf => ?_) (fun J33 hJ33 hf => ?_)
        · refine jr_aload_n dX8_book_139 rfl rfl jv_rr ?_
          refine jr_iconst dX8_book_140 ic_0 ?_
          refine jr_bipush dX8_book_141 bp_99 ?_
          obtain ⟨r35, S36, h34, hf⟩ := tm_b2E hf
          refine jr_callM (st := []) lk_X8_168_23 (wX8_number (0 : Int32) (99 : Int32) hT S32 h34) tm_k23 rfl rfl rfl (so_le rfl) (so_le rfl) dX8_book_143 ?_
          refine jr_istore (lv' := [(0, .ref (tm_a 0)), (2, .int v11), (4, .int r16), (5, .int r35)]) dX8_book_146 (so_le rfl) rfl ?_
          refine jr_aload_n dX8_book_148 rfl rfl jv_rr ?_
          refine jr_bipush dX8_book_149 bp_59 ?_
          obtain ⟨S39, h37, hf⟩ := so_b hf
          refine jr_callM (st := []) lk_X8_185_23 (wX8_sign (59 : Int32) hT S36 h37) tm_k23 rfl rfl rfl (so_le rfl) (so_le rfl) dX8_book_151 ?_
          refine jr_aload_n dX8_book_154 rfl rfl jv_rr ?_
          refine tr_getI fl_X8_122_23 dX8_book_155 ?_
          refine so_jE hf (fun J => ∀ (v40 : Int32) (S41 : tm_S), J v40 S41 = some (res, sg') → jg_ (tm_j S0 sg0, tm_j S0 sg', .inl (some (.int res))) kX8_book 184 [(0, .ref (tm_a 0)), (2, .int v40)] [] (tm_j S0 S41)) (fun v40 S41 hf => ?_) (fun J42 hJ42 hf => ?_)
          · refine jr_aload_n dX8_book_184 rfl rfl jv_rr ?_
            obtain ⟨S45, h43, hf⟩ := so_b hf
            refine jr_callM (st := []) lk_X8_128_23 (wX8_blanks hT S41 h43) tm_k23 rfl rfl rfl (so_le rfl) (so_le rfl) dX8_book_185 ?_
            refine jr_goto (tgt := 46) dX8_book_188 rfl ?_
            exact ih v40 S45 hf
          · refine jr_if_ne (tgt := 184) dX8_book_158 rfl (fun c46 => ?_) (fun c46 => ?_)
            · have hf := so_f c46 hf
              refine jr_sub [0, 1] rfl ?_
              exact hJ42 v11 S39 hf
            · have hf := so_t c46 hf
              refine jr_aload_n dX8_book_161 rfl rfl jv_rr ?_
              refine tr_getR (c := 378) hT (List.mem_of_getElem? (i := 15) rfl) fl_X8_61_23 dX8_book_162 ?_
              refine jr_iload_n dX8_book_165 rfl rfl ?_
              obtain ⟨g47, hf⟩ := so_gdE hf
              refine tr_aaload (g' := 379) hT (show tm_k 378 = 56 from rfl) rfl rfl (so_inE g47) dX8_book_166 ?_
              refine jr_iconst dX8_book_167 ic_0 ?_
              refine jr_iload dX8_book_168 rfl ?_
              obtain ⟨g48, hf⟩ := so_gdE hf
              refine tr_iastore hT (tm_rk_378 (so_inE g47)) (tm_rl_378 (so_inE g47)) (so_inE g48) dX8_book_170 ?_
              refine tm_let_e hf (fun S49 hf => ?_)
              refine jr_aload_n dX8_book_171 rfl rfl jv_rr ?_
              refine tr_getR (c := 378) hT (List.mem_of_getElem? (i := 15) rfl) fl_X8_61_23 dX8_book_172 ?_
              refine jr_iload_n dX8_book_175 rfl rfl ?_
              obtain ⟨g50, hf⟩ := so_gdE hf
              refine tr_aaload (g' := 379) hT (show tm_k 378 = 56 from rfl) rfl rfl (so_inE g50) dX8_book_176 ?_
              refine jr_iconst dX8_book_177 ic_1 ?_
              refine jr_iload dX8_book_178 rfl ?_
              obtain ⟨g51, hf⟩ := so_gdE hf
              refine tr_iastore hT (tm_rk_378 (so_inE g50)) (tm_rl_378 (so_inE g50)) (so_inE g51) dX8_book_180 ?_
              refine tm_let_e hf (fun S52 hf => ?_)
              refine jr_iinc (v := v11 + (1 : Int32)) (lv' := [(0, .ref (tm_a 0)), (2, .int (v11 + (1 : Int32))), (4, .int r16), (5, .int r35)]) dX8_book_181 rfl rfl (so_le rfl) rfl ?_
              refine jr_sub [0, 1] rfl ?_
              exact hJ42 (v11 + (1 : Int32)) S52 hf
        · refine jr_if_ne (tgt := 139) dX8_book_124 rfl (fun c53 => ?_) (fun c53 => ?_)
          · have hf := so_f c53 hf
            refine jr_sub [0, 1, 3] rfl ?_
            exact hJ33 S31 hf
          · have hf := so_t c53 hf
            refine jr_iload_n dX8_book_127 rfl rfl ?_
            refine jr_bipush dX8_book_128 bp_6 ?_
            refine jr_icmp_ne (tgt := 139) dX8_book_130 rfl (fun c54 => ?_) (fun c54 => ?_)
            · have hf := so_f c54 hf
              refine jr_sub [0, 1, 3] rfl ?_
              exact hJ33 S31 hf
            · have hf := so_t c54 hf
              refine jr_aload_n dX8_book_133 rfl rfl jv_rr ?_
              refine jr_iconst dX8_book_134 ic_3 ?_
              refine jr_iload_n dX8_book_135 rfl rfl ?_
              obtain ⟨S57, h55, hf⟩ := so_b hf
              refine jr_callM (st := []) lk_X8_135_23 (wX8_wrong (3 : Int32) (S12 0 4) hT S31 h55) tm_k23 rfl rfl rfl (so_le rfl) (so_le rfl) dX8_book_136 ?_
              refine jr_sub [0, 1, 3] rfl ?_
              exact hJ33 S57 hf
def fX8_book (a1 : Int32) (sg : tm_S) : Option (Int32 × tm_S) :=
  tm_let (tm_up sg 0 0 (0 : Int32)) fun S1 =>
  so_j (κ := Int32 → Option (Int32 × tm_S)) (ρ := Option (Int32 × tm_S)) (fun (v2 : Int32) =>
  tm_b2 (fX8_bad v2 (1 : Int32) (1 : Int32) S1) fun r5 S6 =>
  if r5 = (0 : Int32) then
  ((fX8_starts a1 S6).bind fun S10 =>
  LX8_book_46 (fun (v60 : Int32) (S61 : tm_S) =>
  if (S61 0 5) = (0 : Int32) then
  (tm_let (tm_up S61 0 3 (-1 : Int32)) fun S63 =>
  tm_let (tm_up S63 0 36 v60) fun S64 =>
  (fX8_lays 378 371 v60 S64).bind fun S67 =>
  some (v60, S67))
  else
  (tm_b2 (fX8_ends S61) fun r69 S70 =>
  some (r69, S70))) so_N (0 : Int32) S10)
  else
  (some ((0 : Int32), S6)))
  (fun J3 =>
  so_j (κ := Unit → Option (Int32 × tm_S)) (ρ := Option (Int32 × tm_S)) (fun (_u : Unit) =>
  J3 (1 : Int32))
  (fun J71 =>
  if (fX8_in a1 (0 : Int32) (S1 0 1)) = (0 : Int32) then
  (J71 ())
  else
  (if a1 ≤ (60 : Int32) then
  (J3 (0 : Int32))
  else
  (J71 ()))))
set_option maxHeartbeats 4000000 in
set_option maxRecDepth 100000 in
theorem wX8_book {res : Int32} {sg' : tm_S} {S0 : so_St}  (a1 : Int32) (hT : tm_Sh S0) (sg : tm_S)  (hf : fX8_book a1 sg = some (res, sg')) : jx_Sp 3 yX8_book (ws_ yX8_book cX8_book 6 (Option.some Jvm.ClassFile.FieldType.int)) [.ref (tm_a 0), .int a1] (tm_j S0 sg) (.inl (some (.int res))) (tm_j S0 sg') := by
  refine jx_of (plainFor_of_name (by decide)) (so_le rfl) ?_
  show jg_ ((tm_j S0 sg), (tm_j S0 sg'), .inl (some (.int res))) kX8_book 0 [(0, .ref (tm_a 0)), (1, .int a1)] [] (tm_j S0 sg)
  unfold fX8_book at hf
  refine jr_aload_n dX8_book_0 rfl rfl jv_rr ?_
  refine jr_iconst dX8_book_1 ic_0 ?_
  refine tr_putI fp_X8_106_23 dX8_book_2 ?_
  refine tm_let_e hf (fun S1 hf => ?_)
  refine jr_aload_n dX8_book_5 rfl rfl jv_rr ?_
  refine jr_iload_n dX8_book_6 rfl rfl ?_
  refine jr_iconst dX8_book_7 ic_0 ?_
  refine jr_aload_n dX8_book_8 rfl rfl jv_rr ?_
  refine tr_getI fl_X8_109_23 dX8_book_9 ?_
  refine jr_call (st := [.ref (tm_a 0)]) lk_X8_140 (wX8_in a1 (0 : Int32) (S1 0 1) hT S1 rfl) jk_r0 rfl rfl (so_le rfl) (so_le rfl) dX8_book_12 ?_
  refine so_jE hf (fun J => ∀ (v2 : Int32), J v2 = some (res, sg') → jg_ (tm_j S0 sg, tm_j S0 sg', .inl (some (.int res))) kX8_book 29 [(0, .ref (tm_a 0)), (1, .int a1)] [.int v2, .ref (tm_a 0)] (tm_j S0 S1)) (fun v2 hf => ?_) (fun J3 hJ3 hf => ?_)
  · refine jr_iconst dX8_book_29 ic_1 ?_
    refine jr_iconst dX8_book_30 ic_1 ?_
    obtain ⟨r5, S6, h4, hf⟩ := tm_b2E hf
    refine jr_callM (st := []) lk_X8_189_23 (wX8_bad v2 (1 : Int32) (1 : Int32) hT S1 h4) tm_k23 rfl rfl rfl (so_le rfl) (so_le rfl) dX8_book_31 ?_
    refine jr_if_eq (tgt := 39) dX8_book_34 rfl (fun c7 => ?_) (fun c7 => ?_)
    · have hf := so_t c7 hf
      refine jr_aload_n dX8_book_39 rfl rfl jv_rr ?_
      refine jr_iload_n dX8_book_40 rfl rfl ?_
      obtain ⟨S10, h8, hf⟩ := so_b hf
      refine jr_callM (st := []) lk_X8_193_23 (wX8_starts a1 hT S6 h8) tm_k23 rfl rfl rfl (so_le rfl) (so_le rfl) dX8_book_41 ?_
      refine jr_iconst dX8_book_44 ic_0 ?_
      refine jr_istore_n (lv' := [(0, .ref (tm_a 0)), (1, .int a1), (2, .int (0 : Int32))]) dX8_book_45 rfl (so_le rfl) rfl ?_
      refine jr_sub [0, 2] rfl ?_
      refine wX8_book_46 hT _ (fun v60 S61 hf => ?_) so_N (0 : Int32) S10 hf
      refine jr_aload_n dX8_book_191 rfl rfl jv_rr ?_
      refine tr_getI fl_X8_122_23 dX8_book_192 ?_
      refine jr_if_eq (tgt := 203) dX8_book_195 rfl (fun c62 => ?_) (fun c62 => ?_)
      · have hf := so_t c62 hf
        refine jr_aload_n dX8_book_203 rfl rfl jv_rr ?_
        refine jr_iconst dX8_book_204 ic_m1 ?_
        refine tr_putI fp_X8_9_23 dX8_book_205 ?_
        refine tm_let_e hf (fun S63 hf => ?_)
        refine jr_aload_n dX8_book_208 rfl rfl jv_rr ?_
        refine jr_iload_n dX8_book_209 rfl rfl ?_
        refine tr_putI fp_X8_209_23 dX8_book_210 ?_
        refine tm_let_e hf (fun S64 hf => ?_)
        refine jr_aload_n dX8_book_213 rfl rfl jv_rr ?_
        refine tr_getR (c := 378) hT (List.mem_of_getElem? (i := 15) rfl) fl_X8_61_23 dX8_book_214 ?_
        refine jr_aload_n dX8_book_217 rfl rfl jv_rr ?_
        refine tr_getR (c := 371) hT (List.mem_of_getElem? (i := 14) rfl) fl_X8_58_23 dX8_book_218 ?_
        refine jr_iload_n dX8_book_221 rfl rfl ?_
        obtain ⟨S67, h65, hf⟩ := so_b hf
        refine jr_call (st := []) lk_X8_202 (wX8_lays 378 371 v60 hT S64 (show tm_k 378 = 56 from rfl) (show tm_k 371 = 56 from rfl) h65) jk_r0 rfl rfl (so_le rfl) (so_le rfl) dX8_book_222 ?_
        refine jr_iload_n dX8_book_225 rfl rfl ?_
        obtain ⟨rfl, rfl⟩ := so_e2 hf
        exact jr_iret rfl rfl dX8_book_226
      · have hf := so_f c62 hf
        refine jr_aload_n dX8_book_198 rfl rfl jv_rr ?_
        obtain ⟨r69, S70, h68, hf⟩ := tm_b2E hf
        refine jr_callM (st := []) lk_X8_199_23 (wX8_ends hT S61 h68) tm_k23 rfl rfl rfl (so_le rfl) (so_le rfl) dX8_book_199 ?_
        obtain ⟨rfl, rfl⟩ := so_e2 hf
        exact jr_iret rfl rfl dX8_book_202
    · have hf := so_f c7 hf
      refine jr_iconst dX8_book_37 ic_0 ?_
      obtain ⟨rfl, rfl⟩ := so_e2 hf
      exact jr_iret rfl rfl dX8_book_38
  · refine so_jE hf (fun J => ∀ (u0 : Unit), J u0 = some (res, sg') → jg_ (tm_j S0 sg, tm_j S0 sg', .inl (some (.int res))) kX8_book 24 [(0, .ref (tm_a 0)), (1, .int a1)] [.ref (tm_a 0)] (tm_j S0 S1)) (fun _u hf => ?_) (fun J71 hJ71 hf => ?_)
    · refine jr_iconst dX8_book_24 ic_1 ?_
      refine jr_goto (tgt := 29) dX8_book_25 rfl ?_
      exact hJ3 (1 : Int32) hf
    · refine jr_if_eq (tgt := 24) dX8_book_15 rfl (fun c72 => ?_) (fun c72 => ?_)
      · have hf := so_t c72 hf
        exact hJ71 () hf
      · have hf := so_f c72 hf
        refine jr_iload_n dX8_book_18 rfl rfl ?_
        refine jr_bipush dX8_book_19 bp_60 ?_
        refine jr_icmp_le (tgt := 28) dX8_book_21 rfl (fun c73 => ?_) (fun c73 => ?_)
        · have hf := so_t c73 hf
          refine jr_iconst dX8_book_28 ic_0 ?_
          exact hJ3 (0 : Int32) hf
        · have hf := so_f c73 hf
          exact hJ71 () hf

/- X8_fault -/
abbrev kX8_fault : jx_K := (cX8_fault, 1, RX8, 0, (Option.some Jvm.ClassFile.FieldType.int), "fault", [])
def fX8_fault  (sg : tm_S) : Option (Int32 × tm_S) :=
  tm_let (tm_up sg 0 0 (0 : Int32)) fun S1 =>
  some ((S1 0 3), S1)
set_option maxHeartbeats 4000000 in
set_option maxRecDepth 100000 in
theorem wX8_fault {res : Int32} {sg' : tm_S} {S0 : so_St}   (hT : tm_Sh S0) (sg : tm_S)  (hf : fX8_fault sg = some (res, sg')) : jx_Sp 0 yX8_fault (ws_ yX8_fault cX8_fault 1 (Option.some Jvm.ClassFile.FieldType.int)) [.ref (tm_a 0)] (tm_j S0 sg) (.inl (some (.int res))) (tm_j S0 sg') := by
  refine jx_of (plainFor_of_name (by decide)) (so_le rfl) ?_
  show jg_ ((tm_j S0 sg), (tm_j S0 sg'), .inl (some (.int res))) kX8_fault 0 [(0, .ref (tm_a 0))] [] (tm_j S0 sg)
  unfold fX8_fault at hf
  refine jr_aload_n dX8_fault_0 rfl rfl jv_rr ?_
  refine jr_iconst dX8_fault_1 ic_0 ?_
  refine tr_putI fp_X8_106_23 dX8_fault_2 ?_
  refine tm_let_e hf (fun S1 hf => ?_)
  refine jr_aload_n dX8_fault_5 rfl rfl jv_rr ?_
  refine tr_getI fl_X8_9_23 dX8_fault_6 ?_
  obtain ⟨rfl, rfl⟩ := so_e2 hf
  exact jr_iret rfl rfl dX8_fault_9

/- X8_stepHere -/
abbrev kX8_stepHere : jx_K := (cX8_stepHere, 1, RX8, 4, (Option.some Jvm.ClassFile.FieldType.int), "stepHere", [])
def fX8_stepHere  (sg : tm_S) : Option (Int32 × tm_S) :=
  tm_b2 (fX8_isWord (16 : Int32) (21 : Int32) (20 : Int32) (0 : Int32) (0 : Int32) (0 : Int32) sg) fun r2 S3 =>
  if r2 = (0 : Int32) then
  (tm_b2 (fX8_isWord (20 : Int32) (1 : Int32) (11 : Int32) (5 : Int32) (0 : Int32) (0 : Int32) S3) fun r6 S7 =>
  if r6 = (0 : Int32) then
  (tm_b2 (fX8_isWord (12 : Int32) (1 : Int32) (25 : Int32) (0 : Int32) (0 : Int32) (0 : Int32) S7) fun r10 S11 =>
  if r10 = (0 : Int32) then
  (tm_b2 (fX8_isWord (4 : Int32) (1 : Int32) (25 : Int32) (0 : Int32) (0 : Int32) (0 : Int32) S11) fun r14 S15 =>
  if r14 = (0 : Int32) then
  (tm_b2 (fX8_isWord (1 : Int32) (7 : Int32) (1 : Int32) (9 : Int32) (14 : Int32) (0 : Int32) S15) fun r18 S19 =>
  if r18 = (0 : Int32) then
  (some ((-1 : Int32), S19))
  else
  (some ((4 : Int32), S19)))
  else
  (some ((3 : Int32), S15)))
  else
  (some ((2 : Int32), S11)))
  else
  (some ((1 : Int32), S7)))
  else
  (some ((0 : Int32), S3))
set_option maxHeartbeats 4000000 in
set_option maxRecDepth 100000 in
theorem wX8_stepHere {res : Int32} {sg' : tm_S} {S0 : so_St}   (hT : tm_Sh S0) (sg : tm_S)  (hf : fX8_stepHere sg = some (res, sg')) : jx_Sp 4 yX8_stepHere (ws_ yX8_stepHere cX8_stepHere 1 (Option.some Jvm.ClassFile.FieldType.int)) [.ref (tm_a 0)] (tm_j S0 sg) (.inl (some (.int res))) (tm_j S0 sg') := by
  refine jx_of (plainFor_of_name (by decide)) (so_le rfl) ?_
  show jg_ ((tm_j S0 sg), (tm_j S0 sg'), .inl (some (.int res))) kX8_stepHere 0 [(0, .ref (tm_a 0))] [] (tm_j S0 sg)
  unfold fX8_stepHere at hf
  refine jr_aload_n dX8_stepHere_0 rfl rfl jv_rr ?_
  refine jr_bipush dX8_stepHere_1 bp_16 ?_
  refine jr_bipush dX8_stepHere_3 bp_21 ?_
  refine jr_bipush dX8_stepHere_5 bp_20 ?_
  refine jr_iconst dX8_stepHere_7 ic_0 ?_
  refine jr_iconst dX8_stepHere_8 ic_0 ?_
  refine jr_iconst dX8_stepHere_9 ic_0 ?_
  obtain ⟨r2, S3, h1, hf⟩ := tm_b2E hf
  refine jr_callM (st := []) lk_X8_155_23 (wX8_isWord (16 : Int32) (21 : Int32) (20 : Int32) (0 : Int32) (0 : Int32) (0 : Int32) hT sg h1) tm_k23 rfl rfl rfl (so_le rfl) (so_le rfl) dX8_stepHere_10 ?_
  refine jr_if_eq (tgt := 18) dX8_stepHere_13 rfl (fun c4 => ?_) (fun c4 => ?_)
  · have hf := so_t c4 hf
    refine jr_aload_n dX8_stepHere_18 rfl rfl jv_rr ?_
    refine jr_bipush dX8_stepHere_19 bp_20 ?_
    refine jr_iconst dX8_stepHere_21 ic_1 ?_
    refine jr_bipush dX8_stepHere_22 bp_11 ?_
    refine jr_iconst dX8_stepHere_24 ic_5 ?_
    refine jr_iconst dX8_stepHere_25 ic_0 ?_
    refine jr_iconst dX8_stepHere_26 ic_0 ?_
    obtain ⟨r6, S7, h5, hf⟩ := tm_b2E hf
    refine jr_callM (st := []) lk_X8_155_23 (wX8_isWord (20 : Int32) (1 : Int32) (11 : Int32) (5 : Int32) (0 : Int32) (0 : Int32) hT S3 h5) tm_k23 rfl rfl rfl (so_le rfl) (so_le rfl) dX8_stepHere_27 ?_
    refine jr_if_eq (tgt := 35) dX8_stepHere_30 rfl (fun c8 => ?_) (fun c8 => ?_)
    · have hf := so_t c8 hf
      refine jr_aload_n dX8_stepHere_35 rfl rfl jv_rr ?_
      refine jr_bipush dX8_stepHere_36 bp_12 ?_
      refine jr_iconst dX8_stepHere_38 ic_1 ?_
      refine jr_bipush dX8_stepHere_39 bp_25 ?_
      refine jr_iconst dX8_stepHere_41 ic_0 ?_
      refine jr_iconst dX8_stepHere_42 ic_0 ?_
      refine jr_iconst dX8_stepHere_43 ic_0 ?_
      obtain ⟨r10, S11, h9, hf⟩ := tm_b2E hf
      refine jr_callM (st := []) lk_X8_155_23 (wX8_isWord (12 : Int32) (1 : Int32) (25 : Int32) (0 : Int32) (0 : Int32) (0 : Int32) hT S7 h9) tm_k23 rfl rfl rfl (so_le rfl) (so_le rfl) dX8_stepHere_44 ?_
      refine jr_if_eq (tgt := 52) dX8_stepHere_47 rfl (fun c12 => ?_) (fun c12 => ?_)
      · have hf := so_t c12 hf
        refine jr_aload_n dX8_stepHere_52 rfl rfl jv_rr ?_
        refine jr_iconst dX8_stepHere_53 ic_4 ?_
        refine jr_iconst dX8_stepHere_54 ic_1 ?_
        refine jr_bipush dX8_stepHere_55 bp_25 ?_
        refine jr_iconst dX8_stepHere_57 ic_0 ?_
        refine jr_iconst dX8_stepHere_58 ic_0 ?_
        refine jr_iconst dX8_stepHere_59 ic_0 ?_
        obtain ⟨r14, S15, h13, hf⟩ := tm_b2E hf
        refine jr_callM (st := []) lk_X8_155_23 (wX8_isWord (4 : Int32) (1 : Int32) (25 : Int32) (0 : Int32) (0 : Int32) (0 : Int32) hT S11 h13) tm_k23 rfl rfl rfl (so_le rfl) (so_le rfl) dX8_stepHere_60 ?_
        refine jr_if_eq (tgt := 68) dX8_stepHere_63 rfl (fun c16 => ?_) (fun c16 => ?_)
        · have hf := so_t c16 hf
          refine jr_aload_n dX8_stepHere_68 rfl rfl jv_rr ?_
          refine jr_iconst dX8_stepHere_69 ic_1 ?_
          refine jr_bipush dX8_stepHere_70 bp_7 ?_
          refine jr_iconst dX8_stepHere_72 ic_1 ?_
          refine jr_bipush dX8_stepHere_73 bp_9 ?_
          refine jr_bipush dX8_stepHere_75 bp_14 ?_
          refine jr_iconst dX8_stepHere_77 ic_0 ?_
          obtain ⟨r18, S19, h17, hf⟩ := tm_b2E hf
          refine jr_callM (st := []) lk_X8_155_23 (wX8_isWord (1 : Int32) (7 : Int32) (1 : Int32) (9 : Int32) (14 : Int32) (0 : Int32) hT S15 h17) tm_k23 rfl rfl rfl (so_le rfl) (so_le rfl) dX8_stepHere_78 ?_
          refine jr_if_eq (tgt := 88) dX8_stepHere_81 rfl (fun c20 => ?_) (fun c20 => ?_)
          · have hf := so_t c20 hf
            refine jr_iconst dX8_stepHere_88 ic_m1 ?_
            obtain ⟨rfl, rfl⟩ := so_e2 hf
            exact jr_iret rfl rfl dX8_stepHere_89
          · have hf := so_f c20 hf
            refine jr_iconst dX8_stepHere_84 ic_4 ?_
            refine jr_goto (tgt := 89) dX8_stepHere_85 rfl ?_
            obtain ⟨rfl, rfl⟩ := so_e2 hf
            exact jr_iret rfl rfl dX8_stepHere_89
        · have hf := so_f c16 hf
          refine jr_iconst dX8_stepHere_66 ic_3 ?_
          obtain ⟨rfl, rfl⟩ := so_e2 hf
          exact jr_iret rfl rfl dX8_stepHere_67
      · have hf := so_f c12 hf
        refine jr_iconst dX8_stepHere_50 ic_2 ?_
        obtain ⟨rfl, rfl⟩ := so_e2 hf
        exact jr_iret rfl rfl dX8_stepHere_51
    · have hf := so_f c8 hf
      refine jr_iconst dX8_stepHere_33 ic_1 ?_
      obtain ⟨rfl, rfl⟩ := so_e2 hf
      exact jr_iret rfl rfl dX8_stepHere_34
  · have hf := so_f c4 hf
    refine jr_iconst dX8_stepHere_16 ic_0 ?_
    obtain ⟨rfl, rfl⟩ := so_e2 hf
    exact jr_iret rfl rfl dX8_stepHere_17

/- X8_readsStep -/
abbrev kX8_readsStep (d0 : Nat) : jx_K := (cX8_readsStep, 3, RX8, d0 + 5, (Option.none : Option Jvm.ClassFile.FieldType), "readsStep", [])
def LX8_readsStep_149 (rec : tm_S → Option tm_S) (f2 : Nat) (k180 : tm_S → Option tm_S) : Nat → tm_S → Option tm_S
  | 0, _ => none
  | n + 1, S41 =>
    if (S41 0 5) = (0 : Int32) then
    ((fX8_byteAt (S41 0 4) S41).bind fun r44 =>
    if r44 = (93 : Int32) then
    (k180 S41)
    else
    ((rec S41).bind fun S48 =>
    (fX8_blanks S48).bind fun S51 =>
    LX8_readsStep_149 rec f2 k180 n S51))
    else
    (k180 S41)
set_option maxHeartbeats 4000000 in
set_option maxRecDepth 100000 in
theorem wX8_readsStep_149 {d0 : Nat} {sg' : tm_S} {S0 : so_St} {sg0 : tm_S}  {rec : tm_S → Option tm_S} (hrec : ∀ {S0 : so_St} (hT : tm_Sh S0) (sg : tm_S), ∀ {sg' : tm_S}, rec sg = some sg' → jx_Sp d0 yX8_readsStep (ws_ yX8_readsStep cX8_readsStep 3 (Option.none : Option Jvm.ClassFile.FieldType)) [.ref (tm_a 0)] (tm_j S0 sg) (.inl none) (tm_j S0 sg')) (f2 : Nat) (hT : tm_Sh S0)  (k_f2 : tm_k f2 = 50) (k180 : tm_S → Option tm_S) (h180 : ∀ (S52 : tm_S), k180 S52 = some sg' → jg_ (tm_j S0 sg0, tm_j S0 sg', .inl none) (kX8_readsStep d0) 180 [(0, .ref (tm_a 0)), (2, .ref (tm_a f2))] [] (tm_j S0 S52)) : ∀ (n : Nat) (S41 : tm_S), LX8_readsStep_149 rec f2 k180 n S41 = some sg' → jg_ (tm_j S0 sg0, tm_j S0 sg', .inl none) (kX8_readsStep d0) 149 [(0, .ref (tm_a 0)), (2, .ref (tm_a f2))] [] (tm_j S0 S41) := by
  intro n
  induction n with
  | zero =>
    intro S41 hf
    exact so_no hf
  | succ n ih =>
    intro S41 hf
    rw [LX8_readsStep_149] at hf
    refine jr_aload_n dX8_readsStep_149 rfl rfl jv_rr ?_
    refine tr_getI fl_X8_122_23 dX8_readsStep_150 ?_
    refine jr_if_ne (tgt := 180) dX8_readsStep_153 rfl (fun c42 => ?_) (fun c42 => ?_)
    · have hf := so_f c42 hf
      exact h180 S41 hf
    · have hf := so_t c42 hf
      refine jr_aload_n dX8_readsStep_156 rfl rfl jv_rr ?_
      refine jr_aload_n dX8_readsStep_157 rfl rfl jv_rr ?_
      refine tr_getI fl_X8_115_23 dX8_readsStep_158 ?_
      obtain ⟨r44, h43, hf⟩ := so_b hf
      refine jr_callM (st := []) lk_X8_118_23 (wX8_byteAt (S41 0 4) hT S41 h43) tm_k23 rfl rfl rfl (so_le rfl) (show 0 + 1 ≤ d0 + 5 by omega) dX8_readsStep_161 ?_
      refine jr_bipush dX8_readsStep_164 bp_93 ?_
      refine jr_icmp_eq (tgt := 180) dX8_readsStep_166 rfl (fun c45 => ?_) (fun c45 => ?_)
      · have hf := so_t c45 hf
        exact h180 S41 hf
      · have hf := so_f c45 hf
        refine jr_aload_n dX8_readsStep_169 rfl rfl jv_rr ?_
        obtain ⟨S48, h46, hf⟩ := so_b hf
        refine jr_callM (st := []) lk_X8_265_23 (hrec hT S41 h46) tm_k23 rfl rfl rfl (so_le rfl) (show d0 + 0 + 1 ≤ d0 + 5 by omega) dX8_readsStep_170 ?_
        refine jr_aload_n dX8_readsStep_173 rfl rfl jv_rr ?_
        obtain ⟨S51, h49, hf⟩ := so_b hf
        refine jr_callM (st := []) lk_X8_128_23 (wX8_blanks hT S48 h49) tm_k23 rfl rfl rfl (so_le rfl) (show 1 + 1 ≤ d0 + 5 by omega) dX8_readsStep_174 ?_
        refine jr_goto (tgt := 149) dX8_readsStep_177 rfl ?_
        exact ih S51 hf
def fX8_readsStep (rec : tm_S → Option tm_S)  (sg : tm_S) : Option tm_S :=
  tm_b2 (fX8_stepHere sg) fun r2 S3 =>
  so_j (κ := tm_S → Option tm_S) (ρ := Option tm_S) (fun (S4 : tm_S) =>
  so_j (κ := tm_S → Option tm_S) (ρ := Option tm_S) (fun (S6 : tm_S) =>
  if (S6 0 5) = (0 : Int32) then
  ((fX8_skipWord S6).bind fun S11 =>
  so_gd (so_in (S11 0 30) 80) fun _ =>
  tm_let (tm_up S11 0 30 ((S11 0 30) + (1 : Int32))) fun S13 =>
  so_gd (so_in (0 : Int32) 4) fun _ =>
  tm_let (tm_up S13 (388 + (S11 0 30).toNatClampNeg) (0 : Int32).toNatClampNeg r2) fun S15 =>
  so_j (κ := tm_S → Option tm_S) (ρ := Option tm_S) (fun (S16 : tm_S) =>
  so_j (κ := tm_S → Option tm_S) (ρ := Option tm_S) (fun (S18 : tm_S) =>
  so_j (κ := tm_S → Option tm_S) (ρ := Option tm_S) (fun (S20 : tm_S) =>
  so_j (κ := tm_S → Option tm_S) (ρ := Option tm_S) (fun (S22 : tm_S) =>
  so_gd (so_in (3 : Int32) 4) fun _ =>
  tm_let (tm_up S22 (388 + (S11 0 30).toNatClampNeg) (3 : Int32).toNatClampNeg (S22 0 30)) fun S25 =>
  (fX8_sign (59 : Int32) S25).bind fun S28 =>
  some S28)
  (fun J23 =>
  if r2 = (4 : Int32) then
  (tm_b2 (fX8_number (0 : Int32) (60 : Int32) S20) fun r31 S32 =>
  so_gd (so_in (1 : Int32) 4) fun _ =>
  tm_let (tm_up S32 (388 + (S11 0 30).toNatClampNeg) (1 : Int32).toNatClampNeg r31) fun S34 =>
  (fX8_sign (91 : Int32) S34).bind fun S37 =>
  (fX8_blanks S37).bind fun S40 =>
  LX8_readsStep_149 rec (388 + (S11 0 30).toNatClampNeg) (fun (S53 : tm_S) =>
  (fX8_sign (93 : Int32) S53).bind fun S56 =>
  tm_let (tm_up S56 0 8 ((S56 0 8) - (1 : Int32))) fun S57 =>
  J23 S57) so_N S40)
  else
  (J23 S20)))
  (fun J21 =>
  if r2 = (2 : Int32) then
  (tm_b2 (fX8_number (0 : Int32) (9 : Int32) S18) fun r60 S61 =>
  so_gd (so_in (2 : Int32) 4) fun _ =>
  tm_let (tm_up S61 (388 + (S11 0 30).toNatClampNeg) (2 : Int32).toNatClampNeg r60) fun S63 =>
  J21 S63)
  else
  (J21 S18)))
  (fun J19 =>
  if r2 = (0 : Int32) then
  (so_gd (so_in (0 : Int32) 4) fun _ =>
  tm_b2 (fX8_number (0 : Int32) ((S16 4 (0 : Int32).toNatClampNeg) - (1 : Int32)) S16) fun r67 S68 =>
  so_gd (so_in (2 : Int32) 4) fun _ =>
  tm_let (tm_up S68 (388 + (S11 0 30).toNatClampNeg) (2 : Int32).toNatClampNeg r67) fun S70 =>
  J19 S70)
  else
  (J19 S16)))
  (fun J17 =>
  if (3 : Int32) ≤ r2 then
  (J17 S15)
  else
  (so_gd (so_in (2 : Int32) 4) fun _ =>
  tm_b2 (fX8_number (0 : Int32) ((S15 4 (2 : Int32).toNatClampNeg) - (1 : Int32)) S15) fun r74 S75 =>
  so_gd (so_in (1 : Int32) 4) fun _ =>
  tm_let (tm_up S75 (388 + (S11 0 30).toNatClampNeg) (1 : Int32).toNatClampNeg r74) fun S77 =>
  J17 S77)))
  else
  (some S6))
  (fun J7 =>
  if r2 = (4 : Int32) then
  (tm_b2 (fX8_opensOne S4) fun r80 S81 =>
  if r80 = (0 : Int32) then
  (some S81)
  else
  (J7 S81))
  else
  (J7 S4)))
  (fun J5 =>
  if r2 = (-1 : Int32) then
  ((fX8_wrong (1 : Int32) (S3 0 4) S3).bind fun S86 =>
  J5 S86)
  else
  (J5 S3))
set_option maxHeartbeats 4000000 in
set_option maxRecDepth 100000 in
theorem wX8_readsStep {d0 : Nat} {sg' : tm_S} {S0 : so_St} {rec : tm_S → Option tm_S} (hrec : ∀ {S0 : so_St} (hT : tm_Sh S0) (sg : tm_S), ∀ {sg' : tm_S}, rec sg = some sg' → jx_Sp d0 yX8_readsStep (ws_ yX8_readsStep cX8_readsStep 3 (Option.none : Option Jvm.ClassFile.FieldType)) [.ref (tm_a 0)] (tm_j S0 sg) (.inl none) (tm_j S0 sg'))  (hT : tm_Sh S0) (sg : tm_S)  (hf : fX8_readsStep rec sg = some sg') : jx_Sp (d0 + 5) yX8_readsStep (ws_ yX8_readsStep cX8_readsStep 3 (Option.none : Option Jvm.ClassFile.FieldType)) [.ref (tm_a 0)] (tm_j S0 sg) (.inl none) (tm_j S0 sg') := by
  refine jx_of (plainFor_of_name (by decide)) (so_le rfl) ?_
  show jg_ ((tm_j S0 sg), (tm_j S0 sg'), .inl none) (kX8_readsStep d0) 0 [(0, .ref (tm_a 0))] [] (tm_j S0 sg)
  unfold fX8_readsStep at hf
  refine jr_aload_n dX8_readsStep_0 rfl rfl jv_rr ?_
  obtain ⟨r2, S3, h1, hf⟩ := tm_b2E hf
  refine jr_callM (st := []) lk_X8_259_23 (wX8_stepHere hT sg h1) tm_k23 rfl rfl rfl (so_le rfl) (show 4 + 1 ≤ d0 + 5 by omega) dX8_readsStep_1 ?_
  refine jr_istore_n (lv' := [(0, .ref (tm_a 0)), (1, .int r2)]) dX8_readsStep_4 rfl (so_le rfl) rfl ?_
  refine jr_iload_n dX8_readsStep_5 rfl rfl ?_
  refine jr_iconst dX8_readsStep_6 ic_m1 ?_
  refine so_jE hf (fun J => ∀ (S4 : tm_S), J S4 = some sg' → jg_ (tm_j S0 sg, tm_j S0 sg', .inl none) (kX8_readsStep d0) 19 [(0, .ref (tm_a 0)), (1, .int r2)] [] (tm_j S0 S4)) (fun S4 hf => ?_) (fun J5 hJ5 hf => ?_)
  · refine jr_iload_n dX8_readsStep_19 rfl rfl ?_
    refine jr_iconst dX8_readsStep_20 ic_4 ?_
    refine so_jE hf (fun J => ∀ (S6 : tm_S), J S6 = some sg' → jg_ (tm_j S0 sg, tm_j S0 sg', .inl none) (kX8_readsStep d0) 32 [(0, .ref (tm_a 0)), (1, .int r2)] [] (tm_j S0 S6)) (fun S6 hf => ?_) (fun J7 hJ7 hf => ?_)
    · refine jr_aload_n dX8_readsStep_32 rfl rfl jv_rr ?_
      refine tr_getI fl_X8_122_23 dX8_readsStep_33 ?_
      refine jr_if_eq (tgt := 40) dX8_readsStep_36 rfl (fun c8 => ?_) (fun c8 => ?_)
      · have hf := so_t c8 hf
        refine jr_aload_n dX8_readsStep_40 rfl rfl jv_rr ?_
        obtain ⟨S11, h9, hf⟩ := so_b hf
        refine jr_callM (st := []) lk_X8_159_23 (wX8_skipWord hT S6 h9) tm_k23 rfl rfl rfl (so_le rfl) (show 1 + 1 ≤ d0 + 5 by omega) dX8_readsStep_41 ?_
        refine jr_aload_n dX8_readsStep_44 rfl rfl jv_rr ?_
        refine tr_getR (c := 387) hT (List.mem_of_getElem? (i := 18) rfl) fl_X8_70_23 dX8_readsStep_45 ?_
        refine jr_aload_n dX8_readsStep_48 rfl rfl jv_rr ?_
        refine tr_getI fl_X8_262_23 dX8_readsStep_49 ?_
        obtain ⟨g12, hf⟩ := so_gdE hf
        refine tr_aaload (g' := 388) hT (show tm_k 387 = 56 from rfl) rfl rfl (so_inE g12) dX8_readsStep_52 ?_
        refine jr_astore_n (lv' := [(0, .ref (tm_a 0)), (1, .int r2), (2, .ref (tm_a (388 + (S11 0 30).toNatClampNeg)))]) dX8_readsStep_53 rfl (so_le rfl) jv_rr rfl ?_
        refine jr_aload_n dX8_readsStep_54 rfl rfl jv_rr ?_
        refine jr_dup dX8_readsStep_55 rfl ?_
        refine tr_getI fl_X8_262_23 dX8_readsStep_56 ?_
        refine jr_iconst dX8_readsStep_59 ic_1 ?_
        refine jr_iadd dX8_readsStep_60 ?_
        refine tr_putI fp_X8_262_23 dX8_readsStep_61 ?_
        refine tm_let_e hf (fun S13 hf => ?_)
        refine jr_aload_n dX8_readsStep_64 rfl rfl jv_rr ?_
        refine jr_iconst dX8_readsStep_65 ic_0 ?_
        refine jr_iload_n dX8_readsStep_66 rfl rfl ?_
        obtain ⟨g14, hf⟩ := so_gdE hf
        refine tr_iastore hT (tm_rk_387 (so_inE g12)) (tm_rl_387 (so_inE g12)) (so_inE g14) dX8_readsStep_67 ?_
        refine tm_let_e hf (fun S15 hf => ?_)
        refine jr_iload_n dX8_readsStep_68 rfl rfl ?_
        refine jr_iconst dX8_readsStep_69 ic_3 ?_
        refine so_jE hf (fun J => ∀ (S16 : tm_S), J S16 = some sg' → jg_ (tm_j S0 sg, tm_j S0 sg', .inl none) (kX8_readsStep d0) 89 [(0, .ref (tm_a 0)), (1, .int r2), (2, .ref (tm_a (388 + (S11 0 30).toNatClampNeg)))] [] (tm_j S0 S16)) (fun S16 hf => ?_) (fun J17 hJ17 hf => ?_)
        · refine jr_iload_n dX8_readsStep_89 rfl rfl ?_
          refine so_jE hf (fun J => ∀ (S18 : tm_S), J S18 = some sg' → jg_ (tm_j S0 sg, tm_j S0 sg', .inl none) (kX8_readsStep d0) 109 [(0, .ref (tm_a 0)), (1, .int r2), (2, .ref (tm_a (388 + (S11 0 30).toNatClampNeg)))] [] (tm_j S0 S18)) (fun S18 hf => ?_) (fun J19 hJ19 hf => ?_)
          · refine jr_iload_n dX8_readsStep_109 rfl rfl ?_
            refine jr_iconst dX8_readsStep_110 ic_2 ?_
            refine so_jE hf (fun J => ∀ (S20 : tm_S), J S20 = some sg' → jg_ (tm_j S0 sg, tm_j S0 sg', .inl none) (kX8_readsStep d0) 124 [(0, .ref (tm_a 0)), (1, .int r2), (2, .ref (tm_a (388 + (S11 0 30).toNatClampNeg)))] [] (tm_j S0 S20)) (fun S20 hf => ?_) (fun J21 hJ21 hf => ?_)
            · refine jr_iload_n dX8_readsStep_124 rfl rfl ?_
              refine jr_iconst dX8_readsStep_125 ic_4 ?_
              refine so_jE hf (fun J => ∀ (S22 : tm_S), J S22 = some sg' → jg_ (tm_j S0 sg, tm_j S0 sg', .inl none) (kX8_readsStep d0) 196 [(0, .ref (tm_a 0)), (2, .ref (tm_a (388 + (S11 0 30).toNatClampNeg)))] [] (tm_j S0 S22)) (fun S22 hf => ?_) (fun J23 hJ23 hf => ?_)
              · refine jr_aload_n dX8_readsStep_196 rfl rfl jv_rr ?_
                refine jr_iconst dX8_readsStep_197 ic_3 ?_
                refine jr_aload_n dX8_readsStep_198 rfl rfl jv_rr ?_
                refine tr_getI fl_X8_262_23 dX8_readsStep_199 ?_
                obtain ⟨g24, hf⟩ := so_gdE hf
                refine tr_iastore hT (tm_rk_387 (so_inE g12)) (tm_rl_387 (so_inE g12)) (so_inE g24) dX8_readsStep_202 ?_
                refine tm_let_e hf (fun S25 hf => ?_)
                refine jr_aload_n dX8_readsStep_203 rfl rfl jv_rr ?_
                refine jr_bipush dX8_readsStep_204 bp_59 ?_
                obtain ⟨S28, h26, hf⟩ := so_b hf
                refine jr_callM (st := []) lk_X8_185_23 (wX8_sign (59 : Int32) hT S25 h26) tm_k23 rfl rfl rfl (so_le rfl) (show 2 + 1 ≤ d0 + 5 by omega) dX8_readsStep_206 ?_
                obtain rfl := so_e1 hf
                exact jr_vret rfl dX8_readsStep_209
              · refine jr_icmp_ne (tgt := 196) dX8_readsStep_126 rfl (fun c29 => ?_) (fun c29 => ?_)
                · have hf := so_f c29 hf
                  refine jr_sub [0, 2] rfl ?_
                  exact hJ23 S20 hf
                · have hf := so_t c29 hf
                  refine jr_aload_n dX8_readsStep_129 rfl rfl jv_rr ?_
                  refine jr_iconst dX8_readsStep_130 ic_1 ?_
                  refine jr_aload_n dX8_readsStep_131 rfl rfl jv_rr ?_
                  refine jr_iconst dX8_readsStep_132 ic_0 ?_
                  refine jr_bipush dX8_readsStep_133 bp_60 ?_
                  obtain ⟨r31, S32, h30, hf⟩ := tm_b2E hf
                  refine jr_callM (st := [.int (1 : Int32), .ref (tm_a (388 + (S11 0 30).toNatClampNeg))]) lk_X8_168_23 (wX8_number (0 : Int32) (60 : Int32) hT S20 h30) tm_k23 rfl rfl rfl (so_le rfl) (show 2 + 1 ≤ d0 + 5 by omega) dX8_readsStep_135 ?_
                  obtain ⟨g33, hf⟩ := so_gdE hf
                  refine tr_iastore hT (tm_rk_387 (so_inE g12)) (tm_rl_387 (so_inE g12)) (so_inE g33) dX8_readsStep_138 ?_
                  refine tm_let_e hf (fun S34 hf => ?_)
                  refine jr_aload_n dX8_readsStep_139 rfl rfl jv_rr ?_
                  refine jr_bipush dX8_readsStep_140 bp_91 ?_
                  obtain ⟨S37, h35, hf⟩ := so_b hf
                  refine jr_callM (st := []) lk_X8_185_23 (wX8_sign (91 : Int32) hT S34 h35) tm_k23 rfl rfl rfl (so_le rfl) (show 2 + 1 ≤ d0 + 5 by omega) dX8_readsStep_142 ?_
                  refine jr_aload_n dX8_readsStep_145 rfl rfl jv_rr ?_
                  obtain ⟨S40, h38, hf⟩ := so_b hf
                  refine jr_callM (st := []) lk_X8_128_23 (wX8_blanks hT S37 h38) tm_k23 rfl rfl rfl (so_le rfl) (show 1 + 1 ≤ d0 + 5 by omega) dX8_readsStep_146 ?_
                  refine jr_sub [0, 2] rfl ?_
                  refine wX8_readsStep_149 hrec (388 + (S11 0 30).toNatClampNeg) hT (tm_rk_387 (so_inE g12)) _ (fun S53 hf => ?_) so_N S40 hf
                  refine jr_aload_n dX8_readsStep_180 rfl rfl jv_rr ?_
                  refine jr_bipush dX8_readsStep_181 bp_93 ?_
                  obtain ⟨S56, h54, hf⟩ := so_b hf
                  refine jr_callM (st := []) lk_X8_185_23 (wX8_sign (93 : Int32) hT S53 h54) tm_k23 rfl rfl rfl (so_le rfl) (show 2 + 1 ≤ d0 + 5 by omega) dX8_readsStep_183 ?_
                  refine jr_aload_n dX8_readsStep_186 rfl rfl jv_rr ?_
                  refine jr_dup dX8_readsStep_187 rfl ?_
                  refine tr_getI fl_X8_165_23 dX8_readsStep_188 ?_
                  refine jr_iconst dX8_readsStep_191 ic_1 ?_
                  refine jr_isub dX8_readsStep_192 ?_
                  refine tr_putI fp_X8_165_23 dX8_readsStep_193 ?_
                  refine tm_let_e hf (fun S57 hf => ?_)
                  exact hJ23 S57 hf
            · refine jr_icmp_ne (tgt := 124) dX8_readsStep_111 rfl (fun c58 => ?_) (fun c58 => ?_)
              · have hf := so_f c58 hf
                exact hJ21 S18 hf
              · have hf := so_t c58 hf
                refine jr_aload_n dX8_readsStep_114 rfl rfl jv_rr ?_
                refine jr_iconst dX8_readsStep_115 ic_2 ?_
                refine jr_aload_n dX8_readsStep_116 rfl rfl jv_rr ?_
                refine jr_iconst dX8_readsStep_117 ic_0 ?_
                refine jr_bipush dX8_readsStep_118 bp_9 ?_
                obtain ⟨r60, S61, h59, hf⟩ := tm_b2E hf
                refine jr_callM (st := [.int (2 : Int32), .ref (tm_a (388 + (S11 0 30).toNatClampNeg))]) lk_X8_168_23 (wX8_number (0 : Int32) (9 : Int32) hT S18 h59) tm_k23 rfl rfl rfl (so_le rfl) (show 2 + 1 ≤ d0 + 5 by omega) dX8_readsStep_120 ?_
                obtain ⟨g62, hf⟩ := so_gdE hf
                refine tr_iastore hT (tm_rk_387 (so_inE g12)) (tm_rl_387 (so_inE g12)) (so_inE g62) dX8_readsStep_123 ?_
                refine tm_let_e hf (fun S63 hf => ?_)
                exact hJ21 S63 hf
          · refine jr_if_ne (tgt := 109) dX8_readsStep_90 rfl (fun c64 => ?_) (fun c64 => ?_)
            · have hf := so_f c64 hf
              exact hJ19 S16 hf
            · have hf := so_t c64 hf
              refine jr_aload_n dX8_readsStep_93 rfl rfl jv_rr ?_
              refine jr_iconst dX8_readsStep_94 ic_2 ?_
              refine jr_aload_n dX8_readsStep_95 rfl rfl jv_rr ?_
              refine jr_iconst dX8_readsStep_96 ic_0 ?_
              refine jr_aload_n dX8_readsStep_97 rfl rfl jv_rr ?_
              refine tr_getR (c := 4) hT (List.mem_of_getElem? (i := 3) rfl) fl_X8_23_23 dX8_readsStep_98 ?_
              refine jr_iconst dX8_readsStep_101 ic_0 ?_
              obtain ⟨g65, hf⟩ := so_gdE hf
              refine tr_iaload hT (show tm_k 4 = 50 from rfl) rfl (so_inE g65) dX8_readsStep_102 ?_
              refine jr_iconst dX8_readsStep_103 ic_1 ?_
              refine jr_isub dX8_readsStep_104 ?_
              obtain ⟨r67, S68, h66, hf⟩ := tm_b2E hf
              refine jr_callM (st := [.int (2 : Int32), .ref (tm_a (388 + (S11 0 30).toNatClampNeg))]) lk_X8_168_23 (wX8_number (0 : Int32) ((S16 4 (0 : Int32).toNatClampNeg) - (1 : Int32)) hT S16 h66) tm_k23 rfl rfl rfl (so_le rfl) (show 2 + 1 ≤ d0 + 5 by omega) dX8_readsStep_105 ?_
              obtain ⟨g69, hf⟩ := so_gdE hf
              refine tr_iastore hT (tm_rk_387 (so_inE g12)) (tm_rl_387 (so_inE g12)) (so_inE g69) dX8_readsStep_108 ?_
              refine tm_let_e hf (fun S70 hf => ?_)
              exact hJ19 S70 hf
        · refine jr_icmp_ge (tgt := 89) dX8_readsStep_70 rfl (fun c71 => ?_) (fun c71 => ?_)
          · have hf := so_t c71 hf
            exact hJ17 S15 hf
          · have hf := so_f c71 hf
            refine jr_aload_n dX8_readsStep_73 rfl rfl jv_rr ?_
            refine jr_iconst dX8_readsStep_74 ic_1 ?_
            refine jr_aload_n dX8_readsStep_75 rfl rfl jv_rr ?_
            refine jr_iconst dX8_readsStep_76 ic_0 ?_
            refine jr_aload_n dX8_readsStep_77 rfl rfl jv_rr ?_
            refine tr_getR (c := 4) hT (List.mem_of_getElem? (i := 3) rfl) fl_X8_23_23 dX8_readsStep_78 ?_
            refine jr_iconst dX8_readsStep_81 ic_2 ?_
            obtain ⟨g72, hf⟩ := so_gdE hf
            refine tr_iaload hT (show tm_k 4 = 50 from rfl) rfl (so_inE g72) dX8_readsStep_82 ?_
            refine jr_iconst dX8_readsStep_83 ic_1 ?_
            refine jr_isub dX8_readsStep_84 ?_
            obtain ⟨r74, S75, h73, hf⟩ := tm_b2E hf
            refine jr_callM (st := [.int (1 : Int32), .ref (tm_a (388 + (S11 0 30).toNatClampNeg))]) lk_X8_168_23 (wX8_number (0 : Int32) ((S15 4 (2 : Int32).toNatClampNeg) - (1 : Int32)) hT S15 h73) tm_k23 rfl rfl rfl (so_le rfl) (show 2 + 1 ≤ d0 + 5 by omega) dX8_readsStep_85 ?_
            obtain ⟨g76, hf⟩ := so_gdE hf
            refine tr_iastore hT (tm_rk_387 (so_inE g12)) (tm_rl_387 (so_inE g12)) (so_inE g76) dX8_readsStep_88 ?_
            refine tm_let_e hf (fun S77 hf => ?_)
            exact hJ17 S77 hf
      · have hf := so_f c8 hf
        obtain rfl := so_e1 hf
        exact jr_vret rfl dX8_readsStep_39
    · refine jr_icmp_ne (tgt := 32) dX8_readsStep_21 rfl (fun c78 => ?_) (fun c78 => ?_)
      · have hf := so_f c78 hf
        exact hJ7 S4 hf
      · have hf := so_t c78 hf
        refine jr_aload_n dX8_readsStep_24 rfl rfl jv_rr ?_
        obtain ⟨r80, S81, h79, hf⟩ := tm_b2E hf
        refine jr_callM (st := []) lk_X8_239_23 (wX8_opensOne hT S4 h79) tm_k23 rfl rfl rfl (so_le rfl) (show 1 + 1 ≤ d0 + 5 by omega) dX8_readsStep_25 ?_
        refine jr_if_ne (tgt := 32) dX8_readsStep_28 rfl (fun c82 => ?_) (fun c82 => ?_)
        · have hf := so_f c82 hf
          exact hJ7 S81 hf
        · have hf := so_t c82 hf
          obtain rfl := so_e1 hf
          exact jr_vret rfl dX8_readsStep_31
  · refine jr_icmp_ne (tgt := 19) dX8_readsStep_7 rfl (fun c83 => ?_) (fun c83 => ?_)
    · have hf := so_f c83 hf
      exact hJ5 S3 hf
    · have hf := so_t c83 hf
      refine jr_aload_n dX8_readsStep_10 rfl rfl jv_rr ?_
      refine jr_iconst dX8_readsStep_11 ic_1 ?_
      refine jr_aload_n dX8_readsStep_12 rfl rfl jv_rr ?_
      refine tr_getI fl_X8_115_23 dX8_readsStep_13 ?_
      obtain ⟨S86, h84, hf⟩ := so_b hf
      refine jr_callM (st := []) lk_X8_135_23 (wX8_wrong (1 : Int32) (S3 0 4) hT S3 h84) tm_k23 rfl rfl rfl (so_le rfl) (show 0 + 1 ≤ d0 + 5 by omega) dX8_readsStep_16 ?_
      exact hJ5 S86 hf
