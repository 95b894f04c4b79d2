/-! printed: functions and walks -/
set_option maxRecDepth 100000
set_option linter.unusedVariables false
/- X13_fact -/
abbrev kX13_fact : jx_K := (cX13_fact, 3, RX13, 3, (Option.some (Jvm.ClassFile.FieldType.object "TunedHouses$Term")), "fact", [])
def fX13_fact (a0 : Nat) (a1 : Nat) (a2 : Int32) (S : so_St) : Option (Nat × so_St) :=
  so_gd (so_big a1) fun _ =>
  (fJ9_length a1 S).bind fun r3 =>
  so_let (so_sI S a0 2 ((so_I S a0 2) + r3)) fun S4 =>
  so_let (so_new S4 21 0 1) fun S5 =>
  (fX6_init (so_at S4 21) a2 S5).bind fun S8 =>
  some ((so_at S4 21), S8)
set_option maxHeartbeats 4000000 in
set_option maxRecDepth 100000 in
theorem wX13_fact {res : Nat} {S' : so_St}  (a0 : Nat) (a1 : Nat) (a2 : Int32)  (S : so_St) (k_a0 : a0 % 64 ∈ [5]) (k_a1 : a1 % 64 ∈ [26]) (hf : fX13_fact a0 a1 a2 S = some (res, S')) : jx_Sp 3 yX13_fact (ws_ yX13_fact cX13_fact 3 (Option.some (Jvm.ClassFile.FieldType.object "TunedHouses$Term"))) [.ref a0, .ref a1, .int a2] S (.inl (some (.ref res))) S' := by
  refine jx_of (plainFor_of_name (by decide)) (so_le rfl) ?_
  show jg_ (S, S', .inl (some (.ref res))) kX13_fact 0 [(0, .ref a0), (1, .ref a1), (2, .int a2)] [] S
  unfold fX13_fact at hf
  refine jr_aload_n dX13_fact_0 rfl rfl jv_rr ?_
  refine jr_dup dX13_fact_1 rfl ?_
  refine jr_getI fl_X13_19_5 k_a0 (so_n26 rfl) dX13_fact_2 ?_
  refine jr_aload_n dX13_fact_5 rfl rfl jv_rr ?_
  obtain ⟨g1, hf⟩ := so_gdE hf
  obtain ⟨r3, h2, hf⟩ := so_b hf
  refine jr_call (st := [.int (so_I S a0 2), .ref a0]) (lk_X13_111_26 26 (so_i1 rfl)) (wJ9_length a1 S k_a1 h2) (jk_r2 26 (so_m1 k_a1) (so_le rfl) rfl rfl (fun _ => (so_bigE g1))) rfl rfl (so_le rfl) (so_le rfl) dX13_fact_6 ?_
  refine jr_iadd dX13_fact_9 ?_
  refine jr_putI fp_X13_19_5 k_a0 (so_n26 rfl) (fun h => by cases h) rfl rfl dX13_fact_10 ?_
  refine so_let_e hf (fun S4 hf => ?_)
  refine jr_new nw_X13_114 dX13_fact_13 ?_
  refine so_let_e hf (fun S5 hf => ?_)
  refine jr_dup dX13_fact_16 rfl ?_
  refine jr_iload_n dX13_fact_17 rfl rfl ?_
  obtain ⟨S8, h6, hf⟩ := so_b hf
  refine jr_call (st := [.ref (so_at S4 21)]) lk_X13_116 (wX6_init (so_at S4 21) a2 S5 (so_atk rfl) h6) (jk_r1 (so_n63 (so_atk rfl) rfl)) rfl rfl (so_le rfl) (so_le rfl) dX13_fact_18 ?_
  obtain ⟨rfl, rfl⟩ := so_e2 hf
  exact jr_aret rfl (Or.inl ⟨_, rfl⟩) jv_rr dX13_fact_21

/- X13_unit -/
abbrev kX13_unit (d0 : Nat) : jx_K := (cX13_unit, 5, RX13, d0 + 7, (Option.some (Jvm.ClassFile.FieldType.object "TunedHouses$Term")), "unit", [])
def fX13_unit (rec : Nat → so_St → Option ((Nat ⊕ Nat) × so_St)) (a0 : Nat) (S : so_St) : Option ((Nat ⊕ Nat) × so_St) :=
  so_b2 (fX9_sign a0 S) fun r2 S3 =>
  if r2 = (40 : Int32) then
  (so_b3 (fX9_opens a0 (1 : Int32) S3) (fun r122 S123 =>
  so_b3 (rec a0 S123) (fun r128 S129 =>
  so_gd (decide (r128 % 64 ∈ [6, 7, 8, 9, 10, 11, 12, 20, 21])) fun _ =>
  so_b3 (fX9_need a0 (41 : Int32) S129) (fun r134 S135 =>
  so_let (so_sI S135 a0 4 ((so_I S135 a0 4) - (1 : Int32))) fun S140 =>
  some (.inl r128, S140))
  (fun x136 S137 =>
  so_gd (decide (x136 % 64 ∈ [3])) fun _ =>
  some (.inr x136, S137)))
  (fun x130 S131 =>
  so_gd (decide (x130 % 64 ∈ [3])) fun _ =>
  some (.inr x130, S131)))
  (fun x124 S125 =>
  so_gd (decide (x124 % 64 ∈ [3])) fun _ =>
  some (.inr x124, S125)))
  else
  (so_j (κ := Unit → Option ((Nat ⊕ Nat) × so_St)) (ρ := Option ((Nat ⊕ Nat) × so_St)) (fun (_u : Unit) =>
  so_b2 (fX9_word a0 S3) fun r7 S8 =>
  so_gd (decide (r7 % 64 ∈ [26])) fun _ =>
  so_gd (so_big r7) fun _ =>
  so_b2 (fJ9_hashCode r7 S8) fun r12 S13 =>
  so_j (κ := Int32 → Option ((Nat ⊕ Nat) × so_St)) (ρ := Option ((Nat ⊕ Nat) × so_St)) (fun (v14 : Int32) =>
  so_j (κ := Unit → Option ((Nat ⊕ Nat) × so_St)) (ρ := Option ((Nat ⊕ Nat) × so_St)) (fun (_u : Unit) =>
  so_b3 (fX13_two rec a0 r7 S13) (fun r17 S18 =>
  so_gd (decide (r17 % 64 ∈ [6, 7, 8, 9, 10, 11, 12, 20, 21])) fun _ =>
  some (.inl r17, S18))
  (fun x19 S20 =>
  so_gd (decide (x19 % 64 ∈ [3])) fun _ =>
  some (.inr x19, S20)))
  (fun J16 =>
  if v14 = (0 : Int32) then
  (so_b2 (fX13_fact a0 r7 (0 : Int32) S13) fun r25 S26 =>
  so_gd (decide (r25 % 64 ∈ [6, 7, 8, 9, 10, 11, 12, 20, 21])) fun _ =>
  some (.inl r25, S26))
  else
  if v14 = (1 : Int32) then
  (so_b2 (fX13_fact a0 r7 (1 : Int32) S13) fun r30 S31 =>
  so_gd (decide (r30 % 64 ∈ [6, 7, 8, 9, 10, 11, 12, 20, 21])) fun _ =>
  some (.inl r30, S31))
  else
  if v14 = (2 : Int32) then
  (so_b2 (fX13_fact a0 r7 (2 : Int32) S13) fun r35 S36 =>
  so_gd (decide (r35 % 64 ∈ [6, 7, 8, 9, 10, 11, 12, 20, 21])) fun _ =>
  some (.inl r35, S36))
  else
  if v14 = (3 : Int32) then
  (so_b2 (fX13_fact a0 r7 (3 : Int32) S13) fun r40 S41 =>
  so_gd (decide (r40 % 64 ∈ [6, 7, 8, 9, 10, 11, 12, 20, 21])) fun _ =>
  some (.inl r40, S41))
  else
  if v14 = (4 : Int32) then
  (so_b2 (fX13_fact a0 r7 (4 : Int32) S13) fun r45 S46 =>
  so_gd (decide (r45 % 64 ∈ [6, 7, 8, 9, 10, 11, 12, 20, 21])) fun _ =>
  some (.inl r45, S46))
  else
  if v14 = (5 : Int32) then
  (so_b2 (fX13_fact a0 r7 (5 : Int32) S13) fun r50 S51 =>
  so_gd (decide (r50 % 64 ∈ [6, 7, 8, 9, 10, 11, 12, 20, 21])) fun _ =>
  some (.inl r50, S51))
  else
  if v14 = (6 : Int32) then
  (so_b2 (fX13_fact a0 r7 (6 : Int32) S13) fun r55 S56 =>
  so_gd (decide (r55 % 64 ∈ [6, 7, 8, 9, 10, 11, 12, 20, 21])) fun _ =>
  some (.inl r55, S56))
  else
  if v14 = (7 : Int32) then
  (so_b2 (fX13_fact a0 r7 (7 : Int32) S13) fun r60 S61 =>
  so_gd (decide (r60 % 64 ∈ [6, 7, 8, 9, 10, 11, 12, 20, 21])) fun _ =>
  some (.inl r60, S61))
  else
  if v14 = (8 : Int32) then
  (J16 ())
  else
  if v14 = (9 : Int32) then
  (J16 ())
  else
  (so_b2 (fX9_wrong a0 S13) fun r66 S67 =>
  so_gd (decide (r66 % 64 ∈ [3])) fun _ =>
  some (.inr r66, S67))))
  (fun J15 =>
  if r12 = (-891980137 : Int32) then
  ((fJ9_equals r7 794 S13).bind fun r72 =>
  if r72 = (0 : Int32) then
  (J15 (-1 : Int32))
  else
  (J15 (0 : Int32)))
  else
  if r12 = (99228 : Int32) then
  ((fJ9_equals r7 1690 S13).bind fun r76 =>
  if r76 = (0 : Int32) then
  (J15 (-1 : Int32))
  else
  (J15 (7 : Int32)))
  else
  if r12 = (3076183 : Int32) then
  ((fJ9_equals r7 1050 S13).bind fun r80 =>
  if r80 = (0 : Int32) then
  (J15 (-1 : Int32))
  else
  (J15 (2 : Int32)))
  else
  if r12 = (3139207 : Int32) then
  ((fJ9_equals r7 922 S13).bind fun r84 =>
  if r84 = (0 : Int32) then
  (J15 (-1 : Int32))
  else
  (J15 (1 : Int32)))
  else
  if r12 = (3198960 : Int32) then
  ((fJ9_equals r7 1178 S13).bind fun r88 =>
  if r88 = (0 : Int32) then
  (J15 (-1 : Int32))
  else
  (J15 (3 : Int32)))
  else
  if r12 = (3357571 : Int32) then
  ((fJ9_equals r7 1946 S13).bind fun r92 =>
  if r92 = (0 : Int32) then
  (J15 (-1 : Int32))
  else
  (J15 (9 : Int32)))
  else
  if r12 = (3377907 : Int32) then
  ((fJ9_equals r7 1434 S13).bind fun r96 =>
  if r96 = (0 : Int32) then
  (J15 (-1 : Int32))
  else
  (J15 (5 : Int32)))
  else
  if r12 = (99469088 : Int32) then
  ((fJ9_equals r7 1562 S13).bind fun r100 =>
  if r100 = (0 : Int32) then
  (J15 (-1 : Int32))
  else
  (J15 (6 : Int32)))
  else
  if r12 = (102846057 : Int32) then
  ((fJ9_equals r7 1818 S13).bind fun r104 =>
  if r104 = (0 : Int32) then
  (J15 (-1 : Int32))
  else
  (J15 (8 : Int32)))
  else
  if r12 = (110331118 : Int32) then
  ((fJ9_equals r7 1306 S13).bind fun r108 =>
  if r108 = (0 : Int32) then
  (J15 (-1 : Int32))
  else
  (J15 (4 : Int32)))
  else
  (J15 (-1 : Int32))))
  (fun J5 =>
  if r2 < (48 : Int32) then
  (J5 ())
  else
  (if (57 : Int32) < r2 then
  (J5 ())
  else
  (so_let (so_new S3 6 0 1) fun S112 =>
  so_b3 (fX9_number a0 (0 : Int32) (999 : Int32) S112) (fun r113 S114 =>
  (fX14_init (so_at S3 6) r113 S114).bind fun S121 =>
  some (.inl (so_at S3 6), S121))
  (fun x115 S116 =>
  so_gd (decide (x115 % 64 ∈ [3])) fun _ =>
  some (.inr x115, S116))))))
set_option maxHeartbeats 4000000 in
set_option maxRecDepth 100000 in
theorem wX13_unit {d0 : Nat} {res : Nat ⊕ Nat} {S' : so_St} {rec : Nat → so_St → Option ((Nat ⊕ Nat) × so_St)} (hrec : ∀ (a0 : Nat) (S : so_St), a0 % 64 ∈ [5] → ∀ {res : Nat ⊕ Nat} {S' : so_St}, rec a0 S = some (res, S') → jx_Sp d0 yX13_sum (ws_ yX13_sum cX13_sum 4 (Option.some (Jvm.ClassFile.FieldType.object "TunedHouses$Term"))) [.ref a0] S (so_or res) S') (a0 : Nat)  (S : so_St) (k_a0 : a0 % 64 ∈ [5]) (hf : fX13_unit rec a0 S = some (res, S')) : jx_Sp (d0 + 7) yX13_unit (ws_ yX13_unit cX13_unit 5 (Option.some (Jvm.ClassFile.FieldType.object "TunedHouses$Term"))) [.ref a0] S (so_or res) S' := by
  refine jx_of (plainFor_of_name (by decide)) (so_le rfl) ?_
  show jg_ (S, S', so_or res) (kX13_unit d0) 0 [(0, .ref a0)] [] S
  unfold fX13_unit at hf
  refine jr_aload_n dX13_unit_0 rfl rfl jv_rr ?_
  obtain ⟨r2, S3, h1, hf⟩ := so_b2E hf
  refine jr_callM (st := []) lk_X13_15_5 (wX9_sign a0 S (so_ms k_a0 rfl) h1) k_a0 rfl rfl rfl (so_le rfl) (show 0 + 1 ≤ d0 + 7 by omega) dX13_unit_1 ?_
  refine jr_istore_n (lv' := [(0, .ref a0), (1, .int r2)]) dX13_unit_4 rfl (so_le rfl) rfl ?_
  refine jr_iload_n dX13_unit_5 rfl rfl ?_
  refine jr_bipush dX13_unit_6 bp_40 ?_
  refine jr_icmp_ne (tgt := 39) dX13_unit_8 rfl (fun c4 => ?_) (fun c4 => ?_)
  · have hf := so_f c4 hf
    refine jr_iload_n dX13_unit_39 rfl rfl ?_
    refine jr_bipush dX13_unit_40 bp_48 ?_
    refine so_jE hf (fun J => ∀ (u0 : Unit), J u0 = some (res, S') → jg_ (S, S', so_or res) (kX13_unit d0) 67 [(0, .ref a0)] [] S3) (fun _u hf => ?_) (fun J5 hJ5 hf => ?_)
    · refine jr_aload_n dX13_unit_67 rfl rfl jv_rr ?_
      obtain ⟨r7, S8, h6, hf⟩ := so_b2E hf
      obtain ⟨g9, hf⟩ := so_gdE hf
      refine jr_callM (st := []) lk_X13_71_5 (wX9_word a0 S3 (so_ms k_a0 rfl) h6) k_a0 rfl rfl rfl (so_le rfl) (show 6 + 1 ≤ d0 + 7 by omega) dX13_unit_68 ?_
      refine jr_astore_n (lv' := [(0, .ref a0), (2, .ref r7)]) dX13_unit_71 rfl (so_le rfl) jv_rr rfl ?_
      refine jr_aload_n dX13_unit_72 rfl rfl jv_rr ?_
      refine jr_astore_n (lv' := [(0, .ref a0), (2, .ref r7), (3, .ref r7)]) dX13_unit_73 rfl (so_le rfl) jv_rr rfl ?_
      refine jr_iconst dX13_unit_74 ic_m1 ?_
      refine jr_istore (lv' := [(0, .ref a0), (2, .ref r7), (3, .ref r7), (4, .int (-1 : Int32))]) dX13_unit_75 (so_le rfl) rfl ?_
      refine jr_aload_n dX13_unit_77 rfl rfl jv_rr ?_
      obtain ⟨g10, hf⟩ := so_gdE hf
      obtain ⟨r12, S13, h11, hf⟩ := so_b2E hf
      refine jr_call (st := []) (lk_X13_75_26 26 (so_i1 rfl)) (wJ9_hashCode r7 S8 (of_decide_eq_true g9) (so_bigE g10) h11) (jk_r2 26 (so_m1 (of_decide_eq_true g9)) (so_le rfl) rfl rfl (fun _ => (so_bigE g10))) rfl rfl (so_le rfl) (show 3 + 1 ≤ d0 + 7 by omega) dX13_unit_78 ?_
      refine so_jE hf (fun J => ∀ (v14 : Int32), J v14 = some (res, S') → jg_ (S, S', so_or res) (kX13_unit d0) 323 [(0, .ref a0), (2, .ref r7), (4, .int v14)] [] S13) (fun v14 hf => ?_) (fun J15 hJ15 hf => ?_)
      · refine jr_iload dX13_unit_323 rfl ?_
        refine so_jE hf (fun J => ∀ (u0 : Unit), J u0 = some (res, S') → jg_ (S, S', so_or res) (kX13_unit d0) 438 [(0, .ref a0), (2, .ref r7)] [] S13) (fun _u hf => ?_) (fun J16 hJ16 hf => ?_)
        · refine jr_aload_n dX13_unit_438 rfl rfl jv_rr ?_
          refine jr_aload_n dX13_unit_439 rfl rfl jv_rr ?_
          rcases so_b3E hf with ⟨r17, S18, h21, hf⟩ | ⟨x19, S20, h21, hf⟩
          · obtain ⟨g_r17, hf⟩ := so_gdE hf
            refine jr_callM (st := []) lk_X13_107_5 (wX13_two hrec a0 r7 S13 k_a0 (of_decide_eq_true g9) h21) k_a0 rfl rfl rfl (so_le rfl) (show d0 + 6 + 1 ≤ d0 + 7 by omega) dX13_unit_440 ?_
            obtain ⟨rfl, rfl⟩ := so_e2 hf
            exact jr_aret rfl (Or.inl ⟨_, rfl⟩) jv_rr dX13_unit_443
          · refine jr_callMX (st := []) lk_X13_107_5 (wX13_two hrec a0 r7 S13 k_a0 (of_decide_eq_true g9) h21) k_a0 rfl rfl rfl (so_le rfl) (show d0 + 6 + 1 ≤ d0 + 7 by omega) dX13_unit_440 ?_
            obtain ⟨g22, hf⟩ := so_gdE hf
            obtain ⟨rfl, rfl⟩ := so_e2 hf
            exact jr_out (so_l29 (of_decide_eq_true g22) rfl).1 (so_l29 (of_decide_eq_true g22) rfl).2 rfl
        · by_cases c23 : v14 = (0 : Int32)
          · have hf := so_t c23 hf
            refine jr_tsIn (tgt := 380) (0 : Int32) c23 dX13_unit_325 (by decide) (by decide) rfl rfl ?_
            refine jr_aload_n dX13_unit_380 rfl rfl jv_rr ?_
            refine jr_aload_n dX13_unit_381 rfl rfl jv_rr ?_
            refine jr_iconst dX13_unit_382 ic_0 ?_
            obtain ⟨r25, S26, h24, hf⟩ := so_b2E hf
            obtain ⟨g27, hf⟩ := so_gdE hf
            refine jr_callM (st := []) lk_X13_103_5 (wX13_fact a0 r7 (0 : Int32) S13 k_a0 (of_decide_eq_true g9) h24) k_a0 rfl rfl rfl (so_le rfl) (show 3 + 1 ≤ d0 + 7 by omega) dX13_unit_383 ?_
            obtain ⟨rfl, rfl⟩ := so_e2 hf
            exact jr_aret rfl (Or.inl ⟨_, rfl⟩) jv_rr dX13_unit_386
          · have hf := so_f c23 hf
            by_cases c28 : v14 = (1 : Int32)
            · have hf := so_t c28 hf
              refine jr_tsIn (tgt := 387) (1 : Int32) c28 dX13_unit_325 (by decide) (by decide) rfl rfl ?_
              refine jr_aload_n dX13_unit_387 rfl rfl jv_rr ?_
              refine jr_aload_n dX13_unit_388 rfl rfl jv_rr ?_
              refine jr_iconst dX13_unit_389 ic_1 ?_
              obtain ⟨r30, S31, h29, hf⟩ := so_b2E hf
              obtain ⟨g32, hf⟩ := so_gdE hf
              refine jr_callM (st := []) lk_X13_103_5 (wX13_fact a0 r7 (1 : Int32) S13 k_a0 (of_decide_eq_true g9) h29) k_a0 rfl rfl rfl (so_le rfl) (show 3 + 1 ≤ d0 + 7 by omega) dX13_unit_390 ?_
              obtain ⟨rfl, rfl⟩ := so_e2 hf
              exact jr_aret rfl (Or.inl ⟨_, rfl⟩) jv_rr dX13_unit_393
            · have hf := so_f c28 hf
              by_cases c33 : v14 = (2 : Int32)
              · have hf := so_t c33 hf
                refine jr_tsIn (tgt := 394) (2 : Int32) c33 dX13_unit_325 (by decide) (by decide) rfl rfl ?_
                refine jr_aload_n dX13_unit_394 rfl rfl jv_rr ?_
                refine jr_aload_n dX13_unit_395 rfl rfl jv_rr ?_
                refine jr_iconst dX13_unit_396 ic_2 ?_
                obtain ⟨r35, S36, h34, hf⟩ := so_b2E hf
                obtain ⟨g37, hf⟩ := so_gdE hf
                refine jr_callM (st := []) lk_X13_103_5 (wX13_fact a0 r7 (2 : Int32) S13 k_a0 (of_decide_eq_true g9) h34) k_a0 rfl rfl rfl (so_le rfl) (show 3 + 1 ≤ d0 + 7 by omega) dX13_unit_397 ?_
                obtain ⟨rfl, rfl⟩ := so_e2 hf
                exact jr_aret rfl (Or.inl ⟨_, rfl⟩) jv_rr dX13_unit_400
              · have hf := so_f c33 hf
                by_cases c38 : v14 = (3 : Int32)
                · have hf := so_t c38 hf
                  refine jr_tsIn (tgt := 401) (3 : Int32) c38 dX13_unit_325 (by decide) (by decide) rfl rfl ?_
                  refine jr_aload_n dX13_unit_401 rfl rfl jv_rr ?_
                  refine jr_aload_n dX13_unit_402 rfl rfl jv_rr ?_
                  refine jr_iconst dX13_unit_403 ic_3 ?_
                  obtain ⟨r40, S41, h39, hf⟩ := so_b2E hf
                  obtain ⟨g42, hf⟩ := so_gdE hf
                  refine jr_callM (st := []) lk_X13_103_5 (wX13_fact a0 r7 (3 : Int32) S13 k_a0 (of_decide_eq_true g9) h39) k_a0 rfl rfl rfl (so_le rfl) (show 3 + 1 ≤ d0 + 7 by omega) dX13_unit_404 ?_
                  obtain ⟨rfl, rfl⟩ := so_e2 hf
                  exact jr_aret rfl (Or.inl ⟨_, rfl⟩) jv_rr dX13_unit_407
                · have hf := so_f c38 hf
                  by_cases c43 : v14 = (4 : Int32)
                  · have hf := so_t c43 hf
                    refine jr_tsIn (tgt := 408) (4 : Int32) c43 dX13_unit_325 (by decide) (by decide) rfl rfl ?_
                    refine jr_aload_n dX13_unit_408 rfl rfl jv_rr ?_
                    refine jr_aload_n dX13_unit_409 rfl rfl jv_rr ?_
                    refine jr_iconst dX13_unit_410 ic_4 ?_
                    obtain ⟨r45, S46, h44, hf⟩ := so_b2E hf
                    obtain ⟨g47, hf⟩ := so_gdE hf
                    refine jr_callM (st := []) lk_X13_103_5 (wX13_fact a0 r7 (4 : Int32) S13 k_a0 (of_decide_eq_true g9) h44) k_a0 rfl rfl rfl (so_le rfl) (show 3 + 1 ≤ d0 + 7 by omega) dX13_unit_411 ?_
                    obtain ⟨rfl, rfl⟩ := so_e2 hf
                    exact jr_aret rfl (Or.inl ⟨_, rfl⟩) jv_rr dX13_unit_414
                  · have hf := so_f c43 hf
                    by_cases c48 : v14 = (5 : Int32)
                    · have hf := so_t c48 hf
                      refine jr_tsIn (tgt := 415) (5 : Int32) c48 dX13_unit_325 (by decide) (by decide) rfl rfl ?_
                      refine jr_aload_n dX13_unit_415 rfl rfl jv_rr ?_
                      refine jr_aload_n dX13_unit_416 rfl rfl jv_rr ?_
                      refine jr_iconst dX13_unit_417 ic_5 ?_
                      obtain ⟨r50, S51, h49, hf⟩ := so_b2E hf
                      obtain ⟨g52, hf⟩ := so_gdE hf
                      refine jr_callM (st := []) lk_X13_103_5 (wX13_fact a0 r7 (5 : Int32) S13 k_a0 (of_decide_eq_true g9) h49) k_a0 rfl rfl rfl (so_le rfl) (show 3 + 1 ≤ d0 + 7 by omega) dX13_unit_418 ?_
                      obtain ⟨rfl, rfl⟩ := so_e2 hf
                      exact jr_aret rfl (Or.inl ⟨_, rfl⟩) jv_rr dX13_unit_421
                    · have hf := so_f c48 hf
                      by_cases c53 : v14 = (6 : Int32)
                      · have hf := so_t c53 hf
                        refine jr_tsIn (tgt := 422) (6 : Int32) c53 dX13_unit_325 (by decide) (by decide) rfl rfl ?_
                        refine jr_aload_n dX13_unit_422 rfl rfl jv_rr ?_
                        refine jr_aload_n dX13_unit_423 rfl rfl jv_rr ?_
                        refine jr_bipush dX13_unit_424 bp_6 ?_
                        obtain ⟨r55, S56, h54, hf⟩ := so_b2E hf
                        obtain ⟨g57, hf⟩ := so_gdE hf
                        refine jr_callM (st := []) lk_X13_103_5 (wX13_fact a0 r7 (6 : Int32) S13 k_a0 (of_decide_eq_true g9) h54) k_a0 rfl rfl rfl (so_le rfl) (show 3 + 1 ≤ d0 + 7 by omega) dX13_unit_426 ?_
                        obtain ⟨rfl, rfl⟩ := so_e2 hf
                        exact jr_aret rfl (Or.inl ⟨_, rfl⟩) jv_rr dX13_unit_429
                      · have hf := so_f c53 hf
                        by_cases c58 : v14 = (7 : Int32)
                        · have hf := so_t c58 hf
                          refine jr_tsIn (tgt := 430) (7 : Int32) c58 dX13_unit_325 (by decide) (by decide) rfl rfl ?_
                          refine jr_aload_n dX13_unit_430 rfl rfl jv_rr ?_
                          refine jr_aload_n dX13_unit_431 rfl rfl jv_rr ?_
                          refine jr_bipush dX13_unit_432 bp_7 ?_
                          obtain ⟨r60, S61, h59, hf⟩ := so_b2E hf
                          obtain ⟨g62, hf⟩ := so_gdE hf
                          refine jr_callM (st := []) lk_X13_103_5 (wX13_fact a0 r7 (7 : Int32) S13 k_a0 (of_decide_eq_true g9) h59) k_a0 rfl rfl rfl (so_le rfl) (show 3 + 1 ≤ d0 + 7 by omega) dX13_unit_434 ?_
                          obtain ⟨rfl, rfl⟩ := so_e2 hf
                          exact jr_aret rfl (Or.inl ⟨_, rfl⟩) jv_rr dX13_unit_437
                        · have hf := so_f c58 hf
                          by_cases c63 : v14 = (8 : Int32)
                          · have hf := so_t c63 hf
                            refine jr_tsIn (tgt := 438) (8 : Int32) c63 dX13_unit_325 (by decide) (by decide) rfl rfl ?_
                            refine jr_sub [0, 1] rfl ?_
                            exact hJ16 () hf
                          · have hf := so_f c63 hf
                            by_cases c64 : v14 = (9 : Int32)
                            · have hf := so_t c64 hf
                              refine jr_tsIn (tgt := 438) (9 : Int32) c64 dX13_unit_325 (by decide) (by decide) rfl rfl ?_
                              refine jr_sub [0, 1] rfl ?_
                              exact hJ16 () hf
                            · have hf := so_f c64 hf
                              refine jr_tsOut (tgt := 444) [(0 : Int32), (1 : Int32), (2 : Int32), (3 : Int32), (4 : Int32), (5 : Int32), (6 : Int32), (7 : Int32), (8 : Int32), (9 : Int32)] (by decide) (List.forall_mem_cons.mpr ⟨c23, List.forall_mem_cons.mpr ⟨c28, List.forall_mem_cons.mpr ⟨c33, List.forall_mem_cons.mpr ⟨c38, List.forall_mem_cons.mpr ⟨c43, List.forall_mem_cons.mpr ⟨c48, List.forall_mem_cons.mpr ⟨c53, List.forall_mem_cons.mpr ⟨c58, List.forall_mem_cons.mpr ⟨c63, List.forall_mem_cons.mpr ⟨c64, fun _ h => by cases h⟩⟩⟩⟩⟩⟩⟩⟩⟩⟩) dX13_unit_325 rfl ?_
                              refine jr_aload_n dX13_unit_444 rfl rfl jv_rr ?_
                              obtain ⟨r66, S67, h65, hf⟩ := so_b2E hf
                              obtain ⟨g68, hf⟩ := so_gdE hf
                              refine jr_callM (st := []) lk_X13_26_5 (wX9_wrong a0 S13 (so_ms k_a0 rfl) h65) k_a0 rfl rfl rfl (so_le rfl) (show 4 + 1 ≤ d0 + 7 by omega) dX13_unit_445 ?_
                              obtain ⟨rfl, rfl⟩ := so_e2 hf
                              exact jr_athrow (so_n63 (of_decide_eq_true g68) rfl) dX13_unit_448 (jr_out (so_l29 (of_decide_eq_true g68) rfl).1 (so_l29 (of_decide_eq_true g68) rfl).2 rfl)
      · by_cases c70 : r12 = (-891980137 : Int32)
        · have hf := so_t c70 hf
          refine jr_lsIn (off := 91) (tgt := 172) (-891980137 : Int32) c70 dX13_unit_81 rfl (by decide) rfl ?_
          refine jr_aload_n dX13_unit_172 rfl rfl jv_rr ?_
          refine jr_ldcS (i := 5) (tx := "strong") (show (RX13, 80, "strong", 5) ∈ jw_lits from by decide +kernel) dX13_unit_173 ?_
          obtain ⟨r72, h71, hf⟩ := so_b hf
          refine jr_call (st := []) (lk_X13_82_26 26 (so_i1 rfl)) (wJ9_equals r7 794 S13 (of_decide_eq_true g9) (so_i1 rfl) (so_bigE g10) h71) (jk_r2 26 (so_m1 (of_decide_eq_true g9)) (so_le rfl) rfl rfl (fun _ => (so_bigE g10))) rfl rfl (so_le rfl) (show 1 + 1 ≤ d0 + 7 by omega) dX13_unit_175 ?_
          refine jr_if_eq (tgt := 323) dX13_unit_178 rfl (fun c73 => ?_) (fun c73 => ?_)
          · have hf := so_t c73 hf
            refine jr_sub [0, 1, 3] rfl ?_
            exact hJ15 (-1 : Int32) hf
          · have hf := so_f c73 hf
            refine jr_iconst dX13_unit_181 ic_0 ?_
            refine jr_istore (lv' := [(0, .ref a0), (2, .ref r7), (3, .ref r7), (4, .int (0 : Int32))]) dX13_unit_182 (so_le rfl) rfl ?_
            refine jr_goto (tgt := 323) dX13_unit_184 rfl ?_
            refine jr_sub [0, 1, 3] rfl ?_
            exact hJ15 (0 : Int32) hf
        · have hf := so_f c70 hf
          by_cases c74 : r12 = (99228 : Int32)
          · have hf := so_t c74 hf
            refine jr_lsIn (off := 197) (tgt := 278) (99228 : Int32) c74 dX13_unit_81 rfl (by decide) rfl ?_
            refine jr_aload_n dX13_unit_278 rfl rfl jv_rr ?_
            refine jr_ldcS (i := 12) (tx := "day") (show (RX13, 97, "day", 12) ∈ jw_lits from by decide +kernel) dX13_unit_279 ?_
            obtain ⟨r76, h75, hf⟩ := so_b hf
            refine jr_call (st := []) (lk_X13_82_26 26 (so_i1 rfl)) (wJ9_equals r7 1690 S13 (of_decide_eq_true g9) (so_i1 rfl) (so_bigE g10) h75) (jk_r2 26 (so_m1 (of_decide_eq_true g9)) (so_le rfl) rfl rfl (fun _ => (so_bigE g10))) rfl rfl (so_le rfl) (show 1 + 1 ≤ d0 + 7 by omega) dX13_unit_281 ?_
            refine jr_if_eq (tgt := 323) dX13_unit_284 rfl (fun c77 => ?_) (fun c77 => ?_)
            · have hf := so_t c77 hf
              refine jr_sub [0, 1, 3] rfl ?_
              exact hJ15 (-1 : Int32) hf
            · have hf := so_f c77 hf
              refine jr_bipush dX13_unit_287 bp_7 ?_
              refine jr_istore (lv' := [(0, .ref a0), (2, .ref r7), (3, .ref r7), (4, .int (7 : Int32))]) dX13_unit_289 (so_le rfl) rfl ?_
              refine jr_goto (tgt := 323) dX13_unit_291 rfl ?_
              refine jr_sub [0, 1, 3] rfl ?_
              exact hJ15 (7 : Int32) hf
          · have hf := so_f c74 hf
            by_cases c78 : r12 = (3076183 : Int32)
            · have hf := so_t c78 hf
              refine jr_lsIn (off := 121) (tgt := 202) (3076183 : Int32) c78 dX13_unit_81 rfl (by decide) rfl ?_
              refine jr_aload_n dX13_unit_202 rfl rfl jv_rr ?_
              refine jr_ldcS (i := 7) (tx := "days") (show (RX13, 88, "days", 7) ∈ jw_lits from by decide +kernel) dX13_unit_203 ?_
              obtain ⟨r80, h79, hf⟩ := so_b hf
              refine jr_call (st := []) (lk_X13_82_26 26 (so_i1 rfl)) (wJ9_equals r7 1050 S13 (of_decide_eq_true g9) (so_i1 rfl) (so_bigE g10) h79) (jk_r2 26 (so_m1 (of_decide_eq_true g9)) (so_le rfl) rfl rfl (fun _ => (so_bigE g10))) rfl rfl (so_le rfl) (show 1 + 1 ≤ d0 + 7 by omega) dX13_unit_205 ?_
              refine jr_if_eq (tgt := 323) dX13_unit_208 rfl (fun c81 => ?_) (fun c81 => ?_)
              · have hf := so_t c81 hf
                refine jr_sub [0, 1, 3] rfl ?_
                exact hJ15 (-1 : Int32) hf
              · have hf := so_f c81 hf
                refine jr_iconst dX13_unit_211 ic_2 ?_
                refine jr_istore (lv' := [(0, .ref a0), (2, .ref r7), (3, .ref r7), (4, .int (2 : Int32))]) dX13_unit_212 (so_le rfl) rfl ?_
                refine jr_goto (tgt := 323) dX13_unit_214 rfl ?_
                refine jr_sub [0, 1, 3] rfl ?_
                exact hJ15 (2 : Int32) hf
            · have hf := so_f c78 hf
              by_cases c82 : r12 = (3139207 : Int32)
              · have hf := so_t c82 hf
                refine jr_lsIn (off := 106) (tgt := 187) (3139207 : Int32) c82 dX13_unit_81 rfl (by decide) rfl ?_
                refine jr_aload_n dX13_unit_187 rfl rfl jv_rr ?_
                refine jr_ldcS (i := 6) (tx := "felt") (show (RX13, 86, "felt", 6) ∈ jw_lits from by decide +kernel) dX13_unit_188 ?_
                obtain ⟨r84, h83, hf⟩ := so_b hf
                refine jr_call (st := []) (lk_X13_82_26 26 (so_i1 rfl)) (wJ9_equals r7 922 S13 (of_decide_eq_true g9) (so_i1 rfl) (so_bigE g10) h83) (jk_r2 26 (so_m1 (of_decide_eq_true g9)) (so_le rfl) rfl rfl (fun _ => (so_bigE g10))) rfl rfl (so_le rfl) (show 1 + 1 ≤ d0 + 7 by omega) dX13_unit_190 ?_
                refine jr_if_eq (tgt := 323) dX13_unit_193 rfl (fun c85 => ?_) (fun c85 => ?_)
                · have hf := so_t c85 hf
                  refine jr_sub [0, 1, 3] rfl ?_
                  exact hJ15 (-1 : Int32) hf
                · have hf := so_f c85 hf
                  refine jr_iconst dX13_unit_196 ic_1 ?_
                  refine jr_istore (lv' := [(0, .ref a0), (2, .ref r7), (3, .ref r7), (4, .int (1 : Int32))]) dX13_unit_197 (so_le rfl) rfl ?_
                  refine jr_goto (tgt := 323) dX13_unit_199 rfl ?_
                  refine jr_sub [0, 1, 3] rfl ?_
                  exact hJ15 (1 : Int32) hf
              · have hf := so_f c82 hf
                by_cases c86 : r12 = (3198960 : Int32)
                · have hf := so_t c86 hf
                  refine jr_lsIn (off := 136) (tgt := 217) (3198960 : Int32) c86 dX13_unit_81 rfl (by decide) rfl ?_
                  refine jr_aload_n dX13_unit_217 rfl rfl jv_rr ?_
                  refine jr_ldcS (i := 8) (tx := "here") (show (RX13, 90, "here", 8) ∈ jw_lits from by decide +kernel) dX13_unit_218 ?_
                  obtain ⟨r88, h87, hf⟩ := so_b hf
                  refine jr_call (st := []) (lk_X13_82_26 26 (so_i1 rfl)) (wJ9_equals r7 1178 S13 (of_decide_eq_true g9) (so_i1 rfl) (so_bigE g10) h87) (jk_r2 26 (so_m1 (of_decide_eq_true g9)) (so_le rfl) rfl rfl (fun _ => (so_bigE g10))) rfl rfl (so_le rfl) (show 1 + 1 ≤ d0 + 7 by omega) dX13_unit_220 ?_
                  refine jr_if_eq (tgt := 323) dX13_unit_223 rfl (fun c89 => ?_) (fun c89 => ?_)
                  · have hf := so_t c89 hf
                    refine jr_sub [0, 1, 3] rfl ?_
                    exact hJ15 (-1 : Int32) hf
                  · have hf := so_f c89 hf
                    refine jr_iconst dX13_unit_226 ic_3 ?_
                    refine jr_istore (lv' := [(0, .ref a0), (2, .ref r7), (3, .ref r7), (4, .int (3 : Int32))]) dX13_unit_227 (so_le rfl) rfl ?_
                    refine jr_goto (tgt := 323) dX13_unit_229 rfl ?_
                    refine jr_sub [0, 1, 3] rfl ?_
                    exact hJ15 (3 : Int32) hf
                · have hf := so_f c86 hf
                  by_cases c90 : r12 = (3357571 : Int32)
                  · have hf := so_t c90 hf
                    refine jr_lsIn (off := 229) (tgt := 310) (3357571 : Int32) c90 dX13_unit_81 rfl (by decide) rfl ?_
                    refine jr_aload_n dX13_unit_310 rfl rfl jv_rr ?_
                    refine jr_ldcS (i := 14) (tx := "most") (show (RX13, 101, "most", 14) ∈ jw_lits from by decide +kernel) dX13_unit_311 ?_
                    obtain ⟨r92, h91, hf⟩ := so_b hf
                    refine jr_call (st := []) (lk_X13_82_26 26 (so_i1 rfl)) (wJ9_equals r7 1946 S13 (of_decide_eq_true g9) (so_i1 rfl) (so_bigE g10) h91) (jk_r2 26 (so_m1 (of_decide_eq_true g9)) (so_le rfl) rfl rfl (fun _ => (so_bigE g10))) rfl rfl (so_le rfl) (show 1 + 1 ≤ d0 + 7 by omega) dX13_unit_313 ?_
                    refine jr_if_eq (tgt := 323) dX13_unit_316 rfl (fun c93 => ?_) (fun c93 => ?_)
                    · have hf := so_t c93 hf
                      refine jr_sub [0, 1, 3] rfl ?_
                      exact hJ15 (-1 : Int32) hf
                    · have hf := so_f c93 hf
                      refine jr_bipush dX13_unit_319 bp_9 ?_
                      refine jr_istore (lv' := [(0, .ref a0), (2, .ref r7), (3, .ref r7), (4, .int (9 : Int32))]) dX13_unit_321 (so_le rfl) rfl ?_
                      refine jr_sub [0, 1, 3] rfl ?_
                      exact hJ15 (9 : Int32) hf
                  · have hf := so_f c90 hf
                    by_cases c94 : r12 = (3377907 : Int32)
                    · have hf := so_t c94 hf
                      refine jr_lsIn (off := 166) (tgt := 247) (3377907 : Int32) c94 dX13_unit_81 rfl (by decide) rfl ?_
                      refine jr_aload_n dX13_unit_247 rfl rfl jv_rr ?_
                      refine jr_ldcS (i := 10) (tx := "next") (show (RX13, 94, "next", 10) ∈ jw_lits from by decide +kernel) dX13_unit_248 ?_
                      obtain ⟨r96, h95, hf⟩ := so_b hf
                      refine jr_call (st := []) (lk_X13_82_26 26 (so_i1 rfl)) (wJ9_equals r7 1434 S13 (of_decide_eq_true g9) (so_i1 rfl) (so_bigE g10) h95) (jk_r2 26 (so_m1 (of_decide_eq_true g9)) (so_le rfl) rfl rfl (fun _ => (so_bigE g10))) rfl rfl (so_le rfl) (show 1 + 1 ≤ d0 + 7 by omega) dX13_unit_250 ?_
                      refine jr_if_eq (tgt := 323) dX13_unit_253 rfl (fun c97 => ?_) (fun c97 => ?_)
                      · have hf := so_t c97 hf
                        refine jr_sub [0, 1, 3] rfl ?_
                        exact hJ15 (-1 : Int32) hf
                      · have hf := so_f c97 hf
                        refine jr_iconst dX13_unit_256 ic_5 ?_
                        refine jr_istore (lv' := [(0, .ref a0), (2, .ref r7), (3, .ref r7), (4, .int (5 : Int32))]) dX13_unit_257 (so_le rfl) rfl ?_
                        refine jr_goto (tgt := 323) dX13_unit_259 rfl ?_
                        refine jr_sub [0, 1, 3] rfl ?_
                        exact hJ15 (5 : Int32) hf
                    · have hf := so_f c94 hf
                      by_cases c98 : r12 = (99469088 : Int32)
                      · have hf := so_t c98 hf
                        refine jr_lsIn (off := 181) (tgt := 262) (99469088 : Int32) c98 dX13_unit_81 rfl (by decide) rfl ?_
                        refine jr_aload_n dX13_unit_262 rfl rfl jv_rr ?_
                        refine jr_ldcS (i := 11) (tx := "house") (show (RX13, 95, "house", 11) ∈ jw_lits from by decide +kernel) dX13_unit_263 ?_
                        obtain ⟨r100, h99, hf⟩ := so_b hf
                        refine jr_call (st := []) (lk_X13_82_26 26 (so_i1 rfl)) (wJ9_equals r7 1562 S13 (of_decide_eq_true g9) (so_i1 rfl) (so_bigE g10) h99) (jk_r2 26 (so_m1 (of_decide_eq_true g9)) (so_le rfl) rfl rfl (fun _ => (so_bigE g10))) rfl rfl (so_le rfl) (show 1 + 1 ≤ d0 + 7 by omega) dX13_unit_265 ?_
                        refine jr_if_eq (tgt := 323) dX13_unit_268 rfl (fun c101 => ?_) (fun c101 => ?_)
                        · have hf := so_t c101 hf
                          refine jr_sub [0, 1, 3] rfl ?_
                          exact hJ15 (-1 : Int32) hf
                        · have hf := so_f c101 hf
                          refine jr_bipush dX13_unit_271 bp_6 ?_
                          refine jr_istore (lv' := [(0, .ref a0), (2, .ref r7), (3, .ref r7), (4, .int (6 : Int32))]) dX13_unit_273 (so_le rfl) rfl ?_
                          refine jr_goto (tgt := 323) dX13_unit_275 rfl ?_
                          refine jr_sub [0, 1, 3] rfl ?_
                          exact hJ15 (6 : Int32) hf
                      · have hf := so_f c98 hf
                        by_cases c102 : r12 = (102846057 : Int32)
                        · have hf := so_t c102 hf
                          refine jr_lsIn (off := 213) (tgt := 294) (102846057 : Int32) c102 dX13_unit_81 rfl (by decide) rfl ?_
                          refine jr_aload_n dX13_unit_294 rfl rfl jv_rr ?_
                          refine jr_ldcS (i := 13) (tx := "least") (show (RX13, 99, "least", 13) ∈ jw_lits from by decide +kernel) dX13_unit_295 ?_
                          obtain ⟨r104, h103, hf⟩ := so_b hf
                          refine jr_call (st := []) (lk_X13_82_26 26 (so_i1 rfl)) (wJ9_equals r7 1818 S13 (of_decide_eq_true g9) (so_i1 rfl) (so_bigE g10) h103) (jk_r2 26 (so_m1 (of_decide_eq_true g9)) (so_le rfl) rfl rfl (fun _ => (so_bigE g10))) rfl rfl (so_le rfl) (show 1 + 1 ≤ d0 + 7 by omega) dX13_unit_297 ?_
                          refine jr_if_eq (tgt := 323) dX13_unit_300 rfl (fun c105 => ?_) (fun c105 => ?_)
                          · have hf := so_t c105 hf
                            refine jr_sub [0, 1, 3] rfl ?_
                            exact hJ15 (-1 : Int32) hf
                          · have hf := so_f c105 hf
                            refine jr_bipush dX13_unit_303 bp_8 ?_
                            refine jr_istore (lv' := [(0, .ref a0), (2, .ref r7), (3, .ref r7), (4, .int (8 : Int32))]) dX13_unit_305 (so_le rfl) rfl ?_
                            refine jr_goto (tgt := 323) dX13_unit_307 rfl ?_
                            refine jr_sub [0, 1, 3] rfl ?_
                            exact hJ15 (8 : Int32) hf
                        · have hf := so_f c102 hf
                          by_cases c106 : r12 = (110331118 : Int32)
                          · have hf := so_t c106 hf
                            refine jr_lsIn (off := 151) (tgt := 232) (110331118 : Int32) c106 dX13_unit_81 rfl (by decide) rfl ?_
                            refine jr_aload_n dX13_unit_232 rfl rfl jv_rr ?_
                            refine jr_ldcS (i := 9) (tx := "thing") (show (RX13, 92, "thing", 9) ∈ jw_lits from by decide +kernel) dX13_unit_233 ?_
                            obtain ⟨r108, h107, hf⟩ := so_b hf
                            refine jr_call (st := []) (lk_X13_82_26 26 (so_i1 rfl)) (wJ9_equals r7 1306 S13 (of_decide_eq_true g9) (so_i1 rfl) (so_bigE g10) h107) (jk_r2 26 (so_m1 (of_decide_eq_true g9)) (so_le rfl) rfl rfl (fun _ => (so_bigE g10))) rfl rfl (so_le rfl) (show 1 + 1 ≤ d0 + 7 by omega) dX13_unit_235 ?_
                            refine jr_if_eq (tgt := 323) dX13_unit_238 rfl (fun c109 => ?_) (fun c109 => ?_)
                            · have hf := so_t c109 hf
                              refine jr_sub [0, 1, 3] rfl ?_
                              exact hJ15 (-1 : Int32) hf
                            · have hf := so_f c109 hf
                              refine jr_iconst dX13_unit_241 ic_4 ?_
                              refine jr_istore (lv' := [(0, .ref a0), (2, .ref r7), (3, .ref r7), (4, .int (4 : Int32))]) dX13_unit_242 (so_le rfl) rfl ?_
                              refine jr_goto (tgt := 323) dX13_unit_244 rfl ?_
                              refine jr_sub [0, 1, 3] rfl ?_
                              exact hJ15 (4 : Int32) hf
                          · have hf := so_f c106 hf
                            refine jr_lsOut (tgt := 323) [(-891980137 : Int32), (99228 : Int32), (3076183 : Int32), (3139207 : Int32), (3198960 : Int32), (3357571 : Int32), (3377907 : Int32), (99469088 : Int32), (102846057 : Int32), (110331118 : Int32)] (by decide) (List.forall_mem_cons.mpr ⟨c70, List.forall_mem_cons.mpr ⟨c74, List.forall_mem_cons.mpr ⟨c78, List.forall_mem_cons.mpr ⟨c82, List.forall_mem_cons.mpr ⟨c86, List.forall_mem_cons.mpr ⟨c90, List.forall_mem_cons.mpr ⟨c94, List.forall_mem_cons.mpr ⟨c98, List.forall_mem_cons.mpr ⟨c102, List.forall_mem_cons.mpr ⟨c106, fun _ h => by cases h⟩⟩⟩⟩⟩⟩⟩⟩⟩⟩) dX13_unit_81 rfl rfl ?_
                            refine jr_sub [0, 1, 3] rfl ?_
                            exact hJ15 (-1 : Int32) hf
    · refine jr_icmp_lt (tgt := 67) dX13_unit_42 rfl (fun c110 => ?_) (fun c110 => ?_)
      · have hf := so_t c110 hf
        refine jr_sub [0] rfl ?_
        exact hJ5 () hf
      · have hf := so_f c110 hf
        refine jr_iload_n dX13_unit_45 rfl rfl ?_
        refine jr_bipush dX13_unit_46 bp_57 ?_
        refine jr_icmp_gt (tgt := 67) dX13_unit_48 rfl (fun c111 => ?_) (fun c111 => ?_)
        · have hf := so_t c111 hf
          refine jr_sub [0] rfl ?_
          exact hJ5 () hf
        · have hf := so_f c111 hf
          refine jr_new nw_X13_63 dX13_unit_51 ?_
          refine so_let_e hf (fun S112 hf => ?_)
          refine jr_dup dX13_unit_54 rfl ?_
          refine jr_aload_n dX13_unit_55 rfl rfl jv_rr ?_
          refine jr_iconst dX13_unit_56 ic_0 ?_
          refine jr_sipush dX13_unit_57 sp_999 ?_
          rcases so_b3E hf with ⟨r113, S114, h117, hf⟩ | ⟨x115, S116, h117, hf⟩
          · refine jr_callM (st := [.ref (so_at S3 6), .ref (so_at S3 6)]) lk_X13_65_5 (wX9_number a0 (0 : Int32) (999 : Int32) S112 (so_ms k_a0 rfl) h117) k_a0 rfl rfl rfl (so_le rfl) (show 5 + 1 ≤ d0 + 7 by omega) dX13_unit_60 ?_
            obtain ⟨S121, h119, hf⟩ := so_b hf
            refine jr_call (st := [.ref (so_at S3 6)]) lk_X13_69 (wX14_init (so_at S3 6) r113 S114 (so_atk rfl) h119) (jk_r1 (so_n63 (so_atk rfl) rfl)) rfl rfl (so_le rfl) (show 2 + 1 ≤ d0 + 7 by omega) dX13_unit_63 ?_
            obtain ⟨rfl, rfl⟩ := so_e2 hf
            exact jr_aret rfl (Or.inl ⟨_, rfl⟩) jv_rr dX13_unit_66
          · refine jr_callMX (st := [.ref (so_at S3 6), .ref (so_at S3 6)]) lk_X13_65_5 (wX9_number a0 (0 : Int32) (999 : Int32) S112 (so_ms k_a0 rfl) h117) k_a0 rfl rfl rfl (so_le rfl) (show 5 + 1 ≤ d0 + 7 by omega) dX13_unit_60 ?_
            obtain ⟨g118, hf⟩ := so_gdE hf
            obtain ⟨rfl, rfl⟩ := so_e2 hf
            exact jr_out (so_l29 (of_decide_eq_true g118) rfl).1 (so_l29 (of_decide_eq_true g118) rfl).2 rfl
  · have hf := so_t c4 hf
    refine jr_aload_n dX13_unit_11 rfl rfl jv_rr ?_
    refine jr_iconst dX13_unit_12 ic_1 ?_
    rcases so_b3E hf with ⟨r122, S123, h126, hf⟩ | ⟨x124, S125, h126, hf⟩
    · refine jr_callM (st := []) lk_X13_53_5 (wX9_opens a0 (1 : Int32) S3 (so_ms k_a0 rfl) h126) k_a0 rfl rfl rfl (so_le rfl) (show 4 + 1 ≤ d0 + 7 by omega) dX13_unit_13 ?_
      refine jr_aload_n dX13_unit_16 rfl rfl jv_rr ?_
      rcases so_b3E hf with ⟨r128, S129, h132, hf⟩ | ⟨x130, S131, h132, hf⟩
      · obtain ⟨g_r128, hf⟩ := so_gdE hf
        refine jr_callM (st := []) lk_X13_9_5 (hrec a0 S123 k_a0 h132) k_a0 rfl rfl rfl (so_le rfl) (show d0 + 0 + 1 ≤ d0 + 7 by omega) dX13_unit_17 ?_
        refine jr_astore_n (lv' := [(0, .ref a0), (1, .int r2), (2, .ref r128)]) dX13_unit_20 rfl (so_le rfl) jv_rr rfl ?_
        refine jr_aload_n dX13_unit_21 rfl rfl jv_rr ?_
        refine jr_bipush dX13_unit_22 bp_41 ?_
        rcases so_b3E hf with ⟨r134, S135, h138, hf⟩ | ⟨x136, S137, h138, hf⟩
        · refine jr_callM (st := []) lk_X13_57_5 (wX9_need a0 (41 : Int32) S129 (so_ms k_a0 rfl) h138) k_a0 rfl rfl rfl (so_le rfl) (show 5 + 1 ≤ d0 + 7 by omega) dX13_unit_24 ?_
          refine jr_aload_n dX13_unit_27 rfl rfl jv_rr ?_
          refine jr_dup dX13_unit_28 rfl ?_
          refine jr_getI fl_X13_60_5 k_a0 (so_n26 rfl) dX13_unit_29 ?_
          refine jr_iconst dX13_unit_32 ic_1 ?_
          refine jr_isub dX13_unit_33 ?_
          refine jr_putI fp_X13_60_5 k_a0 (so_n26 rfl) (fun h => by cases h) rfl rfl dX13_unit_34 ?_
          refine so_let_e hf (fun S140 hf => ?_)
          refine jr_aload_n dX13_unit_37 rfl rfl jv_rr ?_
          obtain ⟨rfl, rfl⟩ := so_e2 hf
          exact jr_aret rfl (Or.inl ⟨_, rfl⟩) jv_rr dX13_unit_38
        · refine jr_callMX (st := []) lk_X13_57_5 (wX9_need a0 (41 : Int32) S129 (so_ms k_a0 rfl) h138) k_a0 rfl rfl rfl (so_le rfl) (show 5 + 1 ≤ d0 + 7 by omega) dX13_unit_24 ?_
          obtain ⟨g139, hf⟩ := so_gdE hf
          obtain ⟨rfl, rfl⟩ := so_e2 hf
          exact jr_out (so_l29 (of_decide_eq_true g139) rfl).1 (so_l29 (of_decide_eq_true g139) rfl).2 rfl
      · refine jr_callMX (st := []) lk_X13_9_5 (hrec a0 S123 k_a0 h132) k_a0 rfl rfl rfl (so_le rfl) (show d0 + 0 + 1 ≤ d0 + 7 by omega) dX13_unit_17 ?_
        obtain ⟨g133, hf⟩ := so_gdE hf
        obtain ⟨rfl, rfl⟩ := so_e2 hf
        exact jr_out (so_l29 (of_decide_eq_true g133) rfl).1 (so_l29 (of_decide_eq_true g133) rfl).2 rfl
    · refine jr_callMX (st := []) lk_X13_53_5 (wX9_opens a0 (1 : Int32) S3 (so_ms k_a0 rfl) h126) k_a0 rfl rfl rfl (so_le rfl) (show 4 + 1 ≤ d0 + 7 by omega) dX13_unit_13 ?_
      obtain ⟨g127, hf⟩ := so_gdE hf
      obtain ⟨rfl, rfl⟩ := so_e2 hf
      exact jr_out (so_l29 (of_decide_eq_true g127) rfl).1 (so_l29 (of_decide_eq_true g127) rfl).2 rfl

/- X17_init -/
abbrev kX17_init : jx_K := (cX17_init, 3, RX17, 3, (Option.none : Option Jvm.ClassFile.FieldType), "<init>", [])
def fX17_init (a0 : Nat) (a1 : Nat) (a2 : Nat) (S : so_St) : Option so_St :=
  (fX4_init a0 a1 a2 S).bind fun S3 =>
  some S3
set_option maxHeartbeats 4000000 in
set_option maxRecDepth 100000 in
theorem wX17_init {S' : so_St}  (a0 : Nat) (a1 : Nat) (a2 : Nat)  (S : so_St) (k_a0 : a0 % 64 ∈ [9]) (k_a1 : a1 % 64 ∈ [6, 7, 8, 9, 10, 11, 12, 20, 21]) (k_a2 : a2 % 64 ∈ [6, 7, 8, 9, 10, 11, 12, 20, 21]) (hf : fX17_init a0 a1 a2 S = some S') : jx_Sp 3 yX17_init (ws_ yX17_init cX17_init 3 (Option.none : Option Jvm.ClassFile.FieldType)) [.ref a0, .ref a1, .ref a2] S (.inl none) S' := by
  refine jx_of (plainFor_of_name (by decide)) (so_le rfl) ?_
  show jg_ (S, S', .inl none) kX17_init 0 [(0, .ref a0), (1, .ref a1), (2, .ref a2)] [] S
  unfold fX17_init at hf
  refine jr_aload_n dX17_init_0 rfl rfl jv_rr ?_
  refine jr_aload_n dX17_init_1 rfl rfl jv_rr ?_
  refine jr_aload_n dX17_init_2 rfl rfl jv_rr ?_
  obtain ⟨S3, h1, hf⟩ := so_b hf
  refine jr_call (st := []) lk_X17_1 (wX4_init a0 a1 a2 S (so_ms k_a0 rfl) k_a1 k_a2 h1) (jk_r1 (so_n63 k_a0 rfl)) rfl rfl (so_le rfl) (so_le rfl) dX17_init_3 ?_
  obtain rfl := so_e1 hf
  exact jr_vret rfl dX17_init_6

/- X18_init -/
abbrev kX18_init : jx_K := (cX18_init, 3, RX18, 3, (Option.none : Option Jvm.ClassFile.FieldType), "<init>", [])
def fX18_init (a0 : Nat) (a1 : Nat) (a2 : Nat) (S : so_St) : Option so_St :=
  (fX4_init a0 a1 a2 S).bind fun S3 =>
  some S3
set_option maxHeartbeats 4000000 in
set_option maxRecDepth 100000 in
theorem wX18_init {S' : so_St}  (a0 : Nat) (a1 : Nat) (a2 : Nat)  (S : so_St) (k_a0 : a0 % 64 ∈ [10]) (k_a1 : a1 % 64 ∈ [6, 7, 8, 9, 10, 11, 12, 20, 21]) (k_a2 : a2 % 64 ∈ [6, 7, 8, 9, 10, 11, 12, 20, 21]) (hf : fX18_init a0 a1 a2 S = some S') : jx_Sp 3 yX18_init (ws_ yX18_init cX18_init 3 (Option.none : Option Jvm.ClassFile.FieldType)) [.ref a0, .ref a1, .ref a2] S (.inl none) S' := by
  refine jx_of (plainFor_of_name (by decide)) (so_le rfl) ?_
  show jg_ (S, S', .inl none) kX18_init 0 [(0, .ref a0), (1, .ref a1), (2, .ref a2)] [] S
  unfold fX18_init at hf
  refine jr_aload_n dX18_init_0 rfl rfl jv_rr ?_
  refine jr_aload_n dX18_init_1 rfl rfl jv_rr ?_
  refine jr_aload_n dX18_init_2 rfl rfl jv_rr ?_
  obtain ⟨S3, h1, hf⟩ := so_b hf
  refine jr_call (st := []) lk_X18_1 (wX4_init a0 a1 a2 S (so_ms k_a0 rfl) k_a1 k_a2 h1) (jk_r1 (so_n63 k_a0 rfl)) rfl rfl (so_le rfl) (so_le rfl) dX18_init_3 ?_
  obtain rfl := so_e1 hf
  exact jr_vret rfl dX18_init_6

/- X19_init -/
abbrev kX19_init : jx_K := (cX19_init, 3, RX19, 3, (Option.none : Option Jvm.ClassFile.FieldType), "<init>", [])
def fX19_init (a0 : Nat) (a1 : Nat) (a2 : Nat) (S : so_St) : Option so_St :=
  (fX4_init a0 a1 a2 S).bind fun S3 =>
  some S3
set_option maxHeartbeats 4000000 in
set_option maxRecDepth 100000 in
theorem wX19_init {S' : so_St}  (a0 : Nat) (a1 : Nat) (a2 : Nat)  (S : so_St) (k_a0 : a0 % 64 ∈ [11]) (k_a1 : a1 % 64 ∈ [6, 7, 8, 9, 10, 11, 12, 20, 21]) (k_a2 : a2 % 64 ∈ [6, 7, 8, 9, 10, 11, 12, 20, 21]) (hf : fX19_init a0 a1 a2 S = some S') : jx_Sp 3 yX19_init (ws_ yX19_init cX19_init 3 (Option.none : Option Jvm.ClassFile.FieldType)) [.ref a0, .ref a1, .ref a2] S (.inl none) S' := by
  refine jx_of (plainFor_of_name (by decide)) (so_le rfl) ?_
  show jg_ (S, S', .inl none) kX19_init 0 [(0, .ref a0), (1, .ref a1), (2, .ref a2)] [] S
  unfold fX19_init at hf
  refine jr_aload_n dX19_init_0 rfl rfl jv_rr ?_
  refine jr_aload_n dX19_init_1 rfl rfl jv_rr ?_
  refine jr_aload_n dX19_init_2 rfl rfl jv_rr ?_
  obtain ⟨S3, h1, hf⟩ := so_b hf
  refine jr_call (st := []) lk_X19_1 (wX4_init a0 a1 a2 S (so_ms k_a0 rfl) k_a1 k_a2 h1) (jk_r1 (so_n63 k_a0 rfl)) rfl rfl (so_le rfl) (so_le rfl) dX19_init_3 ?_
  obtain rfl := so_e1 hf
  exact jr_vret rfl dX19_init_6

/- X13_product -/
abbrev kX13_product (d0 : Nat) : jx_K := (cX13_product, 4, RX13, d0 + 8, (Option.some (Jvm.ClassFile.FieldType.object "TunedHouses$Term")), "product", [])
def LX13_product_5 (rec : Nat → so_St → Option ((Nat ⊕ Nat) × so_St)) (f0 : Nat) : Nat → Nat → so_St → Option ((Nat ⊕ Nat) × so_St)
  | 0, _, _ => none
  | n + 1, v7, S8 =>
    so_b2 (fX9_sign f0 S8) fun r10 S11 =>
    so_j (κ := so_St → Option ((Nat ⊕ Nat) × so_St)) (ρ := Option ((Nat ⊕ Nat) × so_St)) (fun (S12 : so_St) =>
    so_b2 (fX9_sign f0 S12) fun r15 S16 =>
    so_let (so_sI S16 f0 2 ((so_I S16 f0 2) + (1 : Int32))) fun S17 =>
    so_b3 (fX13_unit rec f0 S17) (fun r18 S19 =>
    so_gd (decide (r18 % 64 ∈ [6, 7, 8, 9, 10, 11, 12, 20, 21])) fun _ =>
    so_j (κ := Nat → so_St → Option ((Nat ⊕ Nat) × so_St)) (ρ := Option ((Nat ⊕ Nat) × so_St)) (fun (v24 : Nat) (S25 : so_St) =>
    LX13_product_5 rec f0 n v24 S25)
    (fun J26 =>
    if r15 = (42 : Int32) then
    (so_let (so_new S19 9 0 2) fun S37 =>
    (fX17_init (so_at S19 9) v7 r18 S37).bind fun S40 =>
    J26 (so_at S19 9) S40)
    else
    (if r15 = (47 : Int32) then
    (so_let (so_new S19 10 0 2) fun S33 =>
    (fX18_init (so_at S19 10) v7 r18 S33).bind fun S36 =>
    J26 (so_at S19 10) S36)
    else
    (so_let (so_new S19 11 0 2) fun S29 =>
    (fX19_init (so_at S19 11) v7 r18 S29).bind fun S32 =>
    J26 (so_at S19 11) S32))))
    (fun x20 S21 =>
    so_gd (decide (x20 % 64 ∈ [3])) fun _ =>
    some (.inr x20, S21)))
    (fun J13 =>
    if r10 = (42 : Int32) then
    (J13 S11)
    else
    (so_b2 (fX9_sign f0 S11) fun r43 S44 =>
    if r43 = (47 : Int32) then
    (J13 S44)
    else
    (so_b2 (fX9_sign f0 S44) fun r47 S48 =>
    if r47 = (37 : Int32) then
    (J13 S48)
    else
    (some (.inl v7, S48)))))
set_option maxHeartbeats 4000000 in
set_option maxRecDepth 100000 in
theorem wX13_product_5 {d0 : Nat} {res : Nat ⊕ Nat} {S' : so_St} {S0 : so_St}  {rec : Nat → so_St → Option ((Nat ⊕ Nat) × so_St)} (hrec : ∀ (a0 : Nat) (S : so_St), a0 % 64 ∈ [5] → ∀ {res : Nat ⊕ Nat} {S' : so_St}, rec a0 S = some (res, S') → jx_Sp d0 yX13_sum (ws_ yX13_sum cX13_sum 4 (Option.some (Jvm.ClassFile.FieldType.object "TunedHouses$Term"))) [.ref a0] S (so_or res) S') (f0 : Nat)   (k_f0 : f0 % 64 ∈ [5]) : ∀ (n : Nat) (v7 : Nat) (S8 : so_St), v7 % 64 ∈ [6, 7, 8, 9, 10, 11, 12, 20, 21] → LX13_product_5 rec f0 n v7 S8 = some (res, S') → jg_ (S0, S', so_or res) (kX13_product d0) 5 [(0, .ref f0), (1, .ref v7)] [] S8 := by
  intro n
  induction n with
  | zero =>
    intro v7 S8 k_v7 hf
    exact so_no hf
  | succ n ih =>
    intro v7 S8 k_v7 hf
    rw [LX13_product_5] at hf
    refine jr_aload_n dX13_product_5 rfl rfl jv_rr ?_
    obtain ⟨r10, S11, h9, hf⟩ := so_b2E hf
    refine jr_callM (st := []) lk_X13_15_5 (wX9_sign f0 S8 (so_ms k_f0 rfl) h9) k_f0 rfl rfl rfl (so_le rfl) (show 0 + 1 ≤ d0 + 8 by omega) dX13_product_6 ?_
    refine jr_bipush dX13_product_9 bp_42 ?_
    refine so_jE hf (fun J => ∀ (S12 : so_St), J S12 = some (res, S') → jg_ (S0, S', so_or res) (kX13_product d0) 32 [(0, .ref f0), (1, .ref v7)] [] S12) (fun S12 hf => ?_) (fun J13 hJ13 hf => ?_)
    · refine jr_aload_n dX13_product_32 rfl rfl jv_rr ?_
      obtain ⟨r15, S16, h14, hf⟩ := so_b2E hf
      refine jr_callM (st := []) lk_X13_15_5 (wX9_sign f0 S12 (so_ms k_f0 rfl) h14) k_f0 rfl rfl rfl (so_le rfl) (show 0 + 1 ≤ d0 + 8 by omega) dX13_product_33 ?_
      refine jr_istore_n (lv' := [(0, .ref f0), (1, .ref v7), (2, .int r15)]) dX13_product_36 rfl (so_le rfl) rfl ?_
      refine jr_aload_n dX13_product_37 rfl rfl jv_rr ?_
      refine jr_dup dX13_product_38 rfl ?_
      refine jr_getI fl_X13_19_5 k_f0 (so_n26 rfl) dX13_product_39 ?_
      refine jr_iconst dX13_product_42 ic_1 ?_
      refine jr_iadd dX13_product_43 ?_
      refine jr_putI fp_X13_19_5 k_f0 (so_n26 rfl) (fun h => by cases h) rfl rfl dX13_product_44 ?_
      refine so_let_e hf (fun S17 hf => ?_)
      refine jr_aload_n dX13_product_47 rfl rfl jv_rr ?_
      rcases so_b3E hf with ⟨r18, S19, h22, hf⟩ | ⟨x20, S21, h22, hf⟩
      · obtain ⟨g_r18, hf⟩ := so_gdE hf
        refine jr_callM (st := []) lk_X13_41_5 (wX13_unit hrec f0 S17 k_f0 h22) k_f0 rfl rfl rfl (so_le rfl) (show d0 + 7 + 1 ≤ d0 + 8 by omega) dX13_product_48 ?_
        refine jr_astore_n (lv' := [(0, .ref f0), (1, .ref v7), (2, .int r15), (3, .ref r18)]) dX13_product_51 rfl (so_le rfl) jv_rr rfl ?_
        refine jr_iload_n dX13_product_52 rfl rfl ?_
        refine jr_bipush dX13_product_53 bp_42 ?_
        refine so_jE hf (fun J => ∀ (v24 : Nat) (S25 : so_St), v24 % 64 ∈ [9, 10, 11] → J v24 S25 = some (res, S') → jg_ (S0, S', so_or res) (kX13_product d0) 97 [(0, .ref f0)] [.ref v24] S25) (fun v24 S25 k_v24 hf => ?_) (fun J26 hJ26 hf => ?_)
        · refine jr_astore_n (lv' := [(0, .ref f0), (1, .ref v24)]) dX13_product_97 rfl (so_le rfl) jv_rr rfl ?_
          refine jr_goto (tgt := 5) dX13_product_98 rfl ?_
          exact ih v24 S25 (so_ms k_v24 rfl) hf
        · refine jr_icmp_ne (tgt := 70) dX13_product_55 rfl (fun c27 => ?_) (fun c27 => ?_)
          · have hf := so_f c27 hf
            refine jr_iload_n dX13_product_70 rfl rfl ?_
            refine jr_bipush dX13_product_71 bp_47 ?_
            refine jr_icmp_ne (tgt := 88) dX13_product_73 rfl (fun c28 => ?_) (fun c28 => ?_)
            · have hf := so_f c28 hf
              refine jr_new nw_X13_50 dX13_product_88 ?_
              refine so_let_e hf (fun S29 hf => ?_)
              refine jr_dup dX13_product_91 rfl ?_
              refine jr_aload_n dX13_product_92 rfl rfl jv_rr ?_
              refine jr_aload_n dX13_product_93 rfl rfl jv_rr ?_
              obtain ⟨S32, h30, hf⟩ := so_b hf
              refine jr_call (st := [.ref (so_at S19 11)]) lk_X13_52 (wX19_init (so_at S19 11) v7 r18 S29 (so_atk rfl) k_v7 (of_decide_eq_true g_r18) h30) (jk_r1 (so_n63 (so_atk rfl) rfl)) rfl rfl (so_le rfl) (show 3 + 1 ≤ d0 + 8 by omega) dX13_product_94 ?_
              refine jr_sub [0] rfl ?_
              exact hJ26 (so_at S19 11) S32 (so_ms (so_atk rfl) rfl) hf
            · have hf := so_t c28 hf
              refine jr_new nw_X13_47 dX13_product_76 ?_
              refine so_let_e hf (fun S33 hf => ?_)
              refine jr_dup dX13_product_79 rfl ?_
              refine jr_aload_n dX13_product_80 rfl rfl jv_rr ?_
              refine jr_aload_n dX13_product_81 rfl rfl jv_rr ?_
              obtain ⟨S36, h34, hf⟩ := so_b hf
              refine jr_call (st := [.ref (so_at S19 10)]) lk_X13_49 (wX18_init (so_at S19 10) v7 r18 S33 (so_atk rfl) k_v7 (of_decide_eq_true g_r18) h34) (jk_r1 (so_n63 (so_atk rfl) rfl)) rfl rfl (so_le rfl) (show 3 + 1 ≤ d0 + 8 by omega) dX13_product_82 ?_
              refine jr_goto (tgt := 97) dX13_product_85 rfl ?_
              refine jr_sub [0] rfl ?_
              exact hJ26 (so_at S19 10) S36 (so_ms (so_atk rfl) rfl) hf
          · have hf := so_t c27 hf
            refine jr_new nw_X13_44 dX13_product_58 ?_
            refine so_let_e hf (fun S37 hf => ?_)
            refine jr_dup dX13_product_61 rfl ?_
            refine jr_aload_n dX13_product_62 rfl rfl jv_rr ?_
            refine jr_aload_n dX13_product_63 rfl rfl jv_rr ?_
            obtain ⟨S40, h38, hf⟩ := so_b hf
            refine jr_call (st := [.ref (so_at S19 9)]) lk_X13_46 (wX17_init (so_at S19 9) v7 r18 S37 (so_atk rfl) k_v7 (of_decide_eq_true g_r18) h38) (jk_r1 (so_n63 (so_atk rfl) rfl)) rfl rfl (so_le rfl) (show 3 + 1 ≤ d0 + 8 by omega) dX13_product_64 ?_
            refine jr_goto (tgt := 97) dX13_product_67 rfl ?_
            refine jr_sub [0] rfl ?_
            exact hJ26 (so_at S19 9) S40 (so_ms (so_atk rfl) rfl) hf
      · refine jr_callMX (st := []) lk_X13_41_5 (wX13_unit hrec f0 S17 k_f0 h22) k_f0 rfl rfl rfl (so_le rfl) (show d0 + 7 + 1 ≤ d0 + 8 by omega) dX13_product_48 ?_
        obtain ⟨g23, hf⟩ := so_gdE hf
        obtain ⟨rfl, rfl⟩ := so_e2 hf
        exact jr_out (so_l29 (of_decide_eq_true g23) rfl).1 (so_l29 (of_decide_eq_true g23) rfl).2 rfl
    · refine jr_icmp_eq (tgt := 32) dX13_product_11 rfl (fun c41 => ?_) (fun c41 => ?_)
      · have hf := so_t c41 hf
        exact hJ13 S11 hf
      · have hf := so_f c41 hf
        refine jr_aload_n dX13_product_14 rfl rfl jv_rr ?_
        obtain ⟨r43, S44, h42, hf⟩ := so_b2E hf
        refine jr_callM (st := []) lk_X13_15_5 (wX9_sign f0 S11 (so_ms k_f0 rfl) h42) k_f0 rfl rfl rfl (so_le rfl) (show 0 + 1 ≤ d0 + 8 by omega) dX13_product_15 ?_
        refine jr_bipush dX13_product_18 bp_47 ?_
        refine jr_icmp_eq (tgt := 32) dX13_product_20 rfl (fun c45 => ?_) (fun c45 => ?_)
        · have hf := so_t c45 hf
          exact hJ13 S44 hf
        · have hf := so_f c45 hf
          refine jr_aload_n dX13_product_23 rfl rfl jv_rr ?_
          obtain ⟨r47, S48, h46, hf⟩ := so_b2E hf
          refine jr_callM (st := []) lk_X13_15_5 (wX9_sign f0 S44 (so_ms k_f0 rfl) h46) k_f0 rfl rfl rfl (so_le rfl) (show 0 + 1 ≤ d0 + 8 by omega) dX13_product_24 ?_
          refine jr_bipush dX13_product_27 bp_37 ?_
          refine jr_icmp_ne (tgt := 101) dX13_product_29 rfl (fun c49 => ?_) (fun c49 => ?_)
          · have hf := so_f c49 hf
            refine jr_aload_n dX13_product_101 rfl rfl jv_rr ?_
            obtain ⟨rfl, rfl⟩ := so_e2 hf
            exact jr_aret rfl (Or.inl ⟨_, rfl⟩) jv_rr dX13_product_102
          · have hf := so_t c49 hf
            exact hJ13 S48 hf
def fX13_product (rec : Nat → so_St → Option ((Nat ⊕ Nat) × so_St)) (a0 : Nat) (S : so_St) : Option ((Nat ⊕ Nat) × so_St) :=
  so_b3 (fX13_unit rec a0 S) (fun r1 S2 =>
  so_gd (decide (r1 % 64 ∈ [6, 7, 8, 9, 10, 11, 12, 20, 21])) fun _ =>
  LX13_product_5 rec a0 so_N r1 S2)
  (fun x3 S4 =>
  so_gd (decide (x3 % 64 ∈ [3])) fun _ =>
  some (.inr x3, S4))
set_option maxHeartbeats 4000000 in
set_option maxRecDepth 100000 in
theorem wX13_product {d0 : Nat} {res : Nat ⊕ Nat} {S' : so_St} {rec : Nat → so_St → Option ((Nat ⊕ Nat) × so_St)} (hrec : ∀ (a0 : Nat) (S : so_St), a0 % 64 ∈ [5] → ∀ {res : Nat ⊕ Nat} {S' : so_St}, rec a0 S = some (res, S') → jx_Sp d0 yX13_sum (ws_ yX13_sum cX13_sum 4 (Option.some (Jvm.ClassFile.FieldType.object "TunedHouses$Term"))) [.ref a0] S (so_or res) S') (a0 : Nat)  (S : so_St) (k_a0 : a0 % 64 ∈ [5]) (hf : fX13_product rec a0 S = some (res, S')) : jx_Sp (d0 + 8) yX13_product (ws_ yX13_product cX13_product 4 (Option.some (Jvm.ClassFile.FieldType.object "TunedHouses$Term"))) [.ref a0] S (so_or res) S' := by
  refine jx_of (plainFor_of_name (by decide)) (so_le rfl) ?_
  show jg_ (S, S', so_or res) (kX13_product d0) 0 [(0, .ref a0)] [] S
  unfold fX13_product at hf
  refine jr_aload_n dX13_product_0 rfl rfl jv_rr ?_
  rcases so_b3E hf with ⟨r1, S2, h5, hf⟩ | ⟨x3, S4, h5, hf⟩
  · obtain ⟨g_r1, hf⟩ := so_gdE hf
    refine jr_callM (st := []) lk_X13_41_5 (wX13_unit hrec a0 S k_a0 h5) k_a0 rfl rfl rfl (so_le rfl) (show d0 + 7 + 1 ≤ d0 + 8 by omega) dX13_product_1 ?_
    refine jr_astore_n (lv' := [(0, .ref a0), (1, .ref r1)]) dX13_product_4 rfl (so_le rfl) jv_rr rfl ?_
    refine wX13_product_5 hrec a0 k_a0 so_N r1 S2 (of_decide_eq_true g_r1) hf
  · refine jr_callMX (st := []) lk_X13_41_5 (wX13_unit hrec a0 S k_a0 h5) k_a0 rfl rfl rfl (so_le rfl) (show d0 + 7 + 1 ≤ d0 + 8 by omega) dX13_product_1 ?_
    obtain ⟨g6, hf⟩ := so_gdE hf
    obtain ⟨rfl, rfl⟩ := so_e2 hf
    exact jr_out (so_l29 (of_decide_eq_true g6) rfl).1 (so_l29 (of_decide_eq_true g6) rfl).2 rfl

/- X20_init -/
abbrev kX20_init : jx_K := (cX20_init, 3, RX20, 3, (Option.none : Option Jvm.ClassFile.FieldType), "<init>", [])
def fX20_init (a0 : Nat) (a1 : Nat) (a2 : Nat) (S : so_St) : Option so_St :=
  (fX4_init a0 a1 a2 S).bind fun S3 =>
  some S3
set_option maxHeartbeats 4000000 in
set_option maxRecDepth 100000 in
theorem wX20_init {S' : so_St}  (a0 : Nat) (a1 : Nat) (a2 : Nat)  (S : so_St) (k_a0 : a0 % 64 ∈ [12]) (k_a1 : a1 % 64 ∈ [6, 7, 8, 9, 10, 11, 12, 20, 21]) (k_a2 : a2 % 64 ∈ [6, 7, 8, 9, 10, 11, 12, 20, 21]) (hf : fX20_init a0 a1 a2 S = some S') : jx_Sp 3 yX20_init (ws_ yX20_init cX20_init 3 (Option.none : Option Jvm.ClassFile.FieldType)) [.ref a0, .ref a1, .ref a2] S (.inl none) S' := by
  refine jx_of (plainFor_of_name (by decide)) (so_le rfl) ?_
  show jg_ (S, S', .inl none) kX20_init 0 [(0, .ref a0), (1, .ref a1), (2, .ref a2)] [] S
  unfold fX20_init at hf
  refine jr_aload_n dX20_init_0 rfl rfl jv_rr ?_
  refine jr_aload_n dX20_init_1 rfl rfl jv_rr ?_
  refine jr_aload_n dX20_init_2 rfl rfl jv_rr ?_
  obtain ⟨S3, h1, hf⟩ := so_b hf
  refine jr_call (st := []) lk_X20_1 (wX4_init a0 a1 a2 S (so_ms k_a0 rfl) k_a1 k_a2 h1) (jk_r1 (so_n63 k_a0 rfl)) rfl rfl (so_le rfl) (so_le rfl) dX20_init_3 ?_
  obtain rfl := so_e1 hf
  exact jr_vret rfl dX20_init_6

/- X13_sum -/
abbrev kX13_sum (d0 : Nat) : jx_K := (cX13_sum, 4, RX13, d0 + 9, (Option.some (Jvm.ClassFile.FieldType.object "TunedHouses$Term")), "sum", [])
def LX13_sum_5 (rec : Nat → so_St → Option ((Nat ⊕ Nat) × so_St)) (f0 : Nat) : Nat → Nat → so_St → Option ((Nat ⊕ Nat) × so_St)
  | 0, _, _ => none
  | n + 1, v7, S8 =>
    so_b2 (fX9_sign f0 S8) fun r10 S11 =>
    so_j (κ := so_St → Option ((Nat ⊕ Nat) × so_St)) (ρ := Option ((Nat ⊕ Nat) × so_St)) (fun (S12 : so_St) =>
    so_b2 (fX9_sign f0 S12) fun r15 S16 =>
    so_j (κ := Int32 → Option ((Nat ⊕ Nat) × so_St)) (ρ := Option ((Nat ⊕ Nat) × so_St)) (fun (v17 : Int32) =>
    so_let (so_sI S16 f0 2 ((so_I S16 f0 2) + (1 : Int32))) fun S19 =>
    so_b3 (fX13_product rec f0 S19) (fun r20 S21 =>
    so_gd (decide (r20 % 64 ∈ [6, 7, 8, 9, 10, 11, 12, 20, 21])) fun _ =>
    so_j (κ := Nat → so_St → Option ((Nat ⊕ Nat) × so_St)) (ρ := Option ((Nat ⊕ Nat) × so_St)) (fun (v26 : Nat) (S27 : so_St) =>
    LX13_sum_5 rec f0 n v26 S27)
    (fun J28 =>
    if v17 = (0 : Int32) then
    (so_let (so_new S21 20 0 2) fun S30 =>
    (fX5_init (so_at S21 20) v7 r20 S30).bind fun S33 =>
    J28 (so_at S21 20) S33)
    else
    (so_let (so_new S21 12 0 2) fun S34 =>
    (fX20_init (so_at S21 12) v7 r20 S34).bind fun S37 =>
    J28 (so_at S21 12) S37)))
    (fun x22 S23 =>
    so_gd (decide (x22 % 64 ∈ [3])) fun _ =>
    some (.inr x22, S23)))
    (fun J18 =>
    if r15 = (43 : Int32) then
    (J18 (1 : Int32))
    else
    (J18 (0 : Int32))))
    (fun J13 =>
    if r10 = (43 : Int32) then
    (J13 S11)
    else
    (so_b2 (fX9_sign f0 S11) fun r41 S42 =>
    if r41 = (45 : Int32) then
    (J13 S42)
    else
    (some (.inl v7, S42))))
set_option maxHeartbeats 4000000 in
set_option maxRecDepth 100000 in
theorem wX13_sum_5 {d0 : Nat} {res : Nat ⊕ Nat} {S' : so_St} {S0 : so_St}  {rec : Nat → so_St → Option ((Nat ⊕ Nat) × so_St)} (hrec : ∀ (a0 : Nat) (S : so_St), a0 % 64 ∈ [5] → ∀ {res : Nat ⊕ Nat} {S' : so_St}, rec a0 S = some (res, S') → jx_Sp d0 yX13_sum (ws_ yX13_sum cX13_sum 4 (Option.some (Jvm.ClassFile.FieldType.object "TunedHouses$Term"))) [.ref a0] S (so_or res) S') (f0 : Nat)   (k_f0 : f0 % 64 ∈ [5]) : ∀ (n : Nat) (v7 : Nat) (S8 : so_St), v7 % 64 ∈ [6, 7, 8, 9, 10, 11, 12, 20, 21] → LX13_sum_5 rec f0 n v7 S8 = some (res, S') → jg_ (S0, S', so_or res) (kX13_sum d0) 5 [(0, .ref f0), (1, .ref v7)] [] S8 := by
  intro n
  induction n with
  | zero =>
    intro v7 S8 k_v7 hf
    exact so_no hf
  | succ n ih =>
    intro v7 S8 k_v7 hf
    rw [LX13_sum_5] at hf
    refine jr_aload_n dX13_sum_5 rfl rfl jv_rr ?_
    obtain ⟨r10, S11, h9, hf⟩ := so_b2E hf
    refine jr_callM (st := []) lk_X13_15_5 (wX9_sign f0 S8 (so_ms k_f0 rfl) h9) k_f0 rfl rfl rfl (so_le rfl) (show 0 + 1 ≤ d0 + 9 by omega) dX13_sum_6 ?_
    refine jr_bipush dX13_sum_9 bp_43 ?_
    refine so_jE hf (fun J => ∀ (S12 : so_St), J S12 = some (res, S') → jg_ (S0, S', so_or res) (kX13_sum d0) 23 [(0, .ref f0), (1, .ref v7)] [] S12) (fun S12 hf => ?_) (fun J13 hJ13 hf => ?_)
    · refine jr_aload_n dX13_sum_23 rfl rfl jv_rr ?_
      obtain ⟨r15, S16, h14, hf⟩ := so_b2E hf
      refine jr_callM (st := []) lk_X13_15_5 (wX9_sign f0 S12 (so_ms k_f0 rfl) h14) k_f0 rfl rfl rfl (so_le rfl) (show 0 + 1 ≤ d0 + 9 by omega) dX13_sum_24 ?_
      refine jr_bipush dX13_sum_27 bp_43 ?_
      refine so_jE hf (fun J => ∀ (v17 : Int32), J v17 = some (res, S') → jg_ (S0, S', so_or res) (kX13_sum d0) 37 [(0, .ref f0), (1, .ref v7)] [.int v17] S16) (fun v17 hf => ?_) (fun J18 hJ18 hf => ?_)
      · refine jr_istore_n (lv' := [(0, .ref f0), (1, .ref v7), (2, .int v17)]) dX13_sum_37 rfl (so_le rfl) rfl ?_
        refine jr_aload_n dX13_sum_38 rfl rfl jv_rr ?_
        refine jr_dup dX13_sum_39 rfl ?_
        refine jr_getI fl_X13_19_5 k_f0 (so_n26 rfl) dX13_sum_40 ?_
        refine jr_iconst dX13_sum_43 ic_1 ?_
        refine jr_iadd dX13_sum_44 ?_
        refine jr_putI fp_X13_19_5 k_f0 (so_n26 rfl) (fun h => by cases h) rfl rfl dX13_sum_45 ?_
        refine so_let_e hf (fun S19 hf => ?_)
        refine jr_aload_n dX13_sum_48 rfl rfl jv_rr ?_
        rcases so_b3E hf with ⟨r20, S21, h24, hf⟩ | ⟨x22, S23, h24, hf⟩
        · obtain ⟨g_r20, hf⟩ := so_gdE hf
          refine jr_callM (st := []) lk_X13_30_5 (wX13_product hrec f0 S19 k_f0 h24) k_f0 rfl rfl rfl (so_le rfl) (show d0 + 8 + 1 ≤ d0 + 9 by omega) dX13_sum_49 ?_
          refine jr_astore_n (lv' := [(0, .ref f0), (1, .ref v7), (2, .int v17), (3, .ref r20)]) dX13_sum_52 rfl (so_le rfl) jv_rr rfl ?_
          refine jr_iload_n dX13_sum_53 rfl rfl ?_
          refine so_jE hf (fun J => ∀ (v26 : Nat) (S27 : so_St), v26 % 64 ∈ [12, 20] → J v26 S27 = some (res, S') → jg_ (S0, S', so_or res) (kX13_sum d0) 78 [(0, .ref f0)] [.ref v26] S27) (fun v26 S27 k_v26 hf => ?_) (fun J28 hJ28 hf => ?_)
          · refine jr_astore_n (lv' := [(0, .ref f0), (1, .ref v26)]) dX13_sum_78 rfl (so_le rfl) jv_rr rfl ?_
            refine jr_goto (tgt := 5) dX13_sum_79 rfl ?_
            exact ih v26 S27 (so_ms k_v26 rfl) hf
          · refine jr_if_eq (tgt := 69) dX13_sum_54 rfl (fun c29 => ?_) (fun c29 => ?_)
            · have hf := so_t c29 hf
              refine jr_new nw_X13_38 dX13_sum_69 ?_
              refine so_let_e hf (fun S30 hf => ?_)
              refine jr_dup dX13_sum_72 rfl ?_
              refine jr_aload_n dX13_sum_73 rfl rfl jv_rr ?_
              refine jr_aload_n dX13_sum_74 rfl rfl jv_rr ?_
              obtain ⟨S33, h31, hf⟩ := so_b hf
              refine jr_call (st := [.ref (so_at S21 20)]) lk_X13_40 (wX5_init (so_at S21 20) v7 r20 S30 (so_atk rfl) k_v7 (of_decide_eq_true g_r20) h31) (jk_r1 (so_n63 (so_atk rfl) rfl)) rfl rfl (so_le rfl) (show 3 + 1 ≤ d0 + 9 by omega) dX13_sum_75 ?_
              refine jr_sub [0] rfl ?_
              exact hJ28 (so_at S21 20) S33 (so_ms (so_atk rfl) rfl) hf
            · have hf := so_f c29 hf
              refine jr_new nw_X13_33 dX13_sum_57 ?_
              refine so_let_e hf (fun S34 hf => ?_)
              refine jr_dup dX13_sum_60 rfl ?_
              refine jr_aload_n dX13_sum_61 rfl rfl jv_rr ?_
              refine jr_aload_n dX13_sum_62 rfl rfl jv_rr ?_
              obtain ⟨S37, h35, hf⟩ := so_b hf
              refine jr_call (st := [.ref (so_at S21 12)]) lk_X13_35 (wX20_init (so_at S21 12) v7 r20 S34 (so_atk rfl) k_v7 (of_decide_eq_true g_r20) h35) (jk_r1 (so_n63 (so_atk rfl) rfl)) rfl rfl (so_le rfl) (show 3 + 1 ≤ d0 + 9 by omega) dX13_sum_63 ?_
              refine jr_goto (tgt := 78) dX13_sum_66 rfl ?_
              refine jr_sub [0] rfl ?_
              exact hJ28 (so_at S21 12) S37 (so_ms (so_atk rfl) rfl) hf
        · refine jr_callMX (st := []) lk_X13_30_5 (wX13_product hrec f0 S19 k_f0 h24) k_f0 rfl rfl rfl (so_le rfl) (show d0 + 8 + 1 ≤ d0 + 9 by omega) dX13_sum_49 ?_
          obtain ⟨g25, hf⟩ := so_gdE hf
          obtain ⟨rfl, rfl⟩ := so_e2 hf
          exact jr_out (so_l29 (of_decide_eq_true g25) rfl).1 (so_l29 (of_decide_eq_true g25) rfl).2 rfl
      · refine jr_icmp_ne (tgt := 36) dX13_sum_29 rfl (fun c38 => ?_) (fun c38 => ?_)
        · have hf := so_f c38 hf
          refine jr_iconst dX13_sum_36 ic_0 ?_
          exact hJ18 (0 : Int32) hf
        · have hf := so_t c38 hf
          refine jr_iconst dX13_sum_32 ic_1 ?_
          refine jr_goto (tgt := 37) dX13_sum_33 rfl ?_
          exact hJ18 (1 : Int32) hf
    · refine jr_icmp_eq (tgt := 23) dX13_sum_11 rfl (fun c39 => ?_) (fun c39 => ?_)
      · have hf := so_t c39 hf
        exact hJ13 S11 hf
      · have hf := so_f c39 hf
        refine jr_aload_n dX13_sum_14 rfl rfl jv_rr ?_
        obtain ⟨r41, S42, h40, hf⟩ := so_b2E hf
        refine jr_callM (st := []) lk_X13_15_5 (wX9_sign f0 S11 (so_ms k_f0 rfl) h40) k_f0 rfl rfl rfl (so_le rfl) (show 0 + 1 ≤ d0 + 9 by omega) dX13_sum_15 ?_
        refine jr_bipush dX13_sum_18 bp_45 ?_
        refine jr_icmp_ne (tgt := 82) dX13_sum_20 rfl (fun c43 => ?_) (fun c43 => ?_)
        · have hf := so_f c43 hf
          refine jr_aload_n dX13_sum_82 rfl rfl jv_rr ?_
          obtain ⟨rfl, rfl⟩ := so_e2 hf
          exact jr_aret rfl (Or.inl ⟨_, rfl⟩) jv_rr dX13_sum_83
        · have hf := so_t c43 hf
          exact hJ13 S42 hf
def fX13_sum (rec : Nat → so_St → Option ((Nat ⊕ Nat) × so_St)) (a0 : Nat) (S : so_St) : Option ((Nat ⊕ Nat) × so_St) :=
  so_b3 (fX13_product rec a0 S) (fun r1 S2 =>
  so_gd (decide (r1 % 64 ∈ [6, 7, 8, 9, 10, 11, 12, 20, 21])) fun _ =>
  LX13_sum_5 rec a0 so_N r1 S2)
  (fun x3 S4 =>
  so_gd (decide (x3 % 64 ∈ [3])) fun _ =>
  some (.inr x3, S4))
set_option maxHeartbeats 4000000 in
set_option maxRecDepth 100000 in
theorem wX13_sum {d0 : Nat} {res : Nat ⊕ Nat} {S' : so_St} {rec : Nat → so_St → Option ((Nat ⊕ Nat) × so_St)} (hrec : ∀ (a0 : Nat) (S : so_St), a0 % 64 ∈ [5] → ∀ {res : Nat ⊕ Nat} {S' : so_St}, rec a0 S = some (res, S') → jx_Sp d0 yX13_sum (ws_ yX13_sum cX13_sum 4 (Option.some (Jvm.ClassFile.FieldType.object "TunedHouses$Term"))) [.ref a0] S (so_or res) S') (a0 : Nat)  (S : so_St) (k_a0 : a0 % 64 ∈ [5]) (hf : fX13_sum rec a0 S = some (res, S')) : jx_Sp (d0 + 9) yX13_sum (ws_ yX13_sum cX13_sum 4 (Option.some (Jvm.ClassFile.FieldType.object "TunedHouses$Term"))) [.ref a0] S (so_or res) S' := by
  refine jx_of (plainFor_of_name (by decide)) (so_le rfl) ?_
  show jg_ (S, S', so_or res) (kX13_sum d0) 0 [(0, .ref a0)] [] S
  unfold fX13_sum at hf
  refine jr_aload_n dX13_sum_0 rfl rfl jv_rr ?_
  rcases so_b3E hf with ⟨r1, S2, h5, hf⟩ | ⟨x3, S4, h5, hf⟩
  · obtain ⟨g_r1, hf⟩ := so_gdE hf
    refine jr_callM (st := []) lk_X13_30_5 (wX13_product hrec a0 S k_a0 h5) k_a0 rfl rfl rfl (so_le rfl) (show d0 + 8 + 1 ≤ d0 + 9 by omega) dX13_sum_1 ?_
    refine jr_astore_n (lv' := [(0, .ref a0), (1, .ref r1)]) dX13_sum_4 rfl (so_le rfl) jv_rr rfl ?_
    refine wX13_sum_5 hrec a0 k_a0 so_N r1 S2 (of_decide_eq_true g_r1) hf
  · refine jr_callMX (st := []) lk_X13_30_5 (wX13_product hrec a0 S k_a0 h5) k_a0 rfl rfl rfl (so_le rfl) (show d0 + 8 + 1 ≤ d0 + 9 by omega) dX13_sum_1 ?_
    obtain ⟨g6, hf⟩ := so_gdE hf
    obtain ⟨rfl, rfl⟩ := so_e2 hf
    exact jr_out (so_l29 (of_decide_eq_true g6) rfl).1 (so_l29 (of_decide_eq_true g6) rfl).2 rfl
