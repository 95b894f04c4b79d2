/-! printed: functions and walks -/
set_option maxRecDepth 100000
set_option linter.unusedVariables false
/- X8_mostOf -/
abbrev kX8_mostOf : jx_K := (cX8_mostOf, 1, RX8, 0, (Option.some Jvm.ClassFile.FieldType.int), "mostOf", [])
def fX8_mostOf (a0 : Int32) : Int32 :=
  if a0 = (0 : Int32) then
  ((8 : Int32))
  else
  (if a0 = (1 : Int32) then
  ((12 : Int32))
  else
  ((6 : Int32)))
set_option maxHeartbeats 4000000 in
set_option maxRecDepth 100000 in
theorem wX8_mostOf {res : Int32} {S0 : so_St}  (a0 : Int32) (hT : tm_Sh S0) (sg : tm_S)  (hf : fX8_mostOf a0 = res) : jx_Sp 0 yX8_mostOf (ws_ yX8_mostOf cX8_mostOf 1 (Option.some Jvm.ClassFile.FieldType.int)) [.int a0] (tm_j S0 sg) (.inl (some (.int res))) (tm_j S0 sg) := by
  refine jx_of (plainFor_of_name (by decide)) (so_le rfl) ?_
  show jg_ ((tm_j S0 sg), (tm_j S0 sg), .inl (some (.int res))) kX8_mostOf 0 [(0, .int a0)] [] (tm_j S0 sg)
  unfold fX8_mostOf at hf
  refine jr_iload_n dX8_mostOf_0 rfl rfl ?_
  refine jr_if_ne (tgt := 9) dX8_mostOf_1 rfl (fun c1 => ?_) (fun c1 => ?_)
  · have hf := so_f c1 hf
    refine jr_iload_n dX8_mostOf_9 rfl rfl ?_
    refine jr_iconst dX8_mostOf_10 ic_1 ?_
    refine jr_icmp_ne (tgt := 19) dX8_mostOf_11 rfl (fun c2 => ?_) (fun c2 => ?_)
    · have hf := so_f c2 hf
      refine jr_bipush dX8_mostOf_19 bp_6 ?_
      obtain rfl := hf
      exact jr_iret rfl rfl dX8_mostOf_21
    · have hf := so_t c2 hf
      refine jr_bipush dX8_mostOf_14 bp_12 ?_
      refine jr_goto (tgt := 21) dX8_mostOf_16 rfl ?_
      obtain rfl := hf
      exact jr_iret rfl rfl dX8_mostOf_21
  · have hf := so_t c1 hf
    refine jr_bipush dX8_mostOf_4 bp_8 ?_
    refine jr_goto (tgt := 21) dX8_mostOf_6 rfl ?_
    obtain rfl := hf
    exact jr_iret rfl rfl dX8_mostOf_21

/- X8_clause -/
abbrev kX8_clause : jx_K := (cX8_clause, 6, RX8, 5, (Option.none : Option Jvm.ClassFile.FieldType), "clause", [])
def fX8_clause  (sg : tm_S) : Option tm_S :=
  tm_b2 (fX8_kindHere sg) fun r2 S3 =>
  so_j (κ := tm_S → Option tm_S) (ρ := Option tm_S) (fun (S4 : tm_S) =>
  if (S4 0 5) = (0 : Int32) then
  ((fX8_skipWord S4).bind fun S9 =>
  tm_let (tm_up S9 0 7 ((S9 0 7) + (1 : Int32))) fun S10 =>
  so_j (κ := Int32 → Option tm_S) (ρ := Option tm_S) (fun (v11 : Int32) =>
  so_j (κ := tm_S → Option tm_S) (ρ := Option tm_S) (fun (S13 : tm_S) =>
  (fX8_sign (59 : Int32) S13).bind fun S17 =>
  if (3 : Int32) ≤ r2 then
  (some S17)
  else
  (so_gd (so_in r2 4) fun _ =>
  so_j (κ := Int32 → Option tm_S) (ρ := Option tm_S) (fun (v20 : Int32) =>
  so_gd (so_in r2 4) fun _ =>
  tm_let (tm_up S17 3 r2.toNatClampNeg ((S17 3 r2.toNatClampNeg) + v20)) fun S23 =>
  some S23)
  (fun J21 =>
  if (S17 0 5) = (0 : Int32) then
  (J21 (1 : Int32))
  else
  (J21 (0 : Int32)))))
  (fun J14 =>
  if r2 = (0 : Int32) then
  (tm_b2 (fX8_number (0 : Int32) (9 : Int32) S10) fun r27 S28 =>
  so_gd (so_in v11 8) fun _ =>
  tm_let (tm_up S28 5 v11.toNatClampNeg r27) fun S30 =>
  J14 S30)
  else
  if r2 = (1 : Int32) then
  (tm_b2 (fX8_readHouse S10) fun r33 S34 =>
  (fX8_blanks S34).bind fun S37 =>
  tm_b2 (fX8_readHouse S37) fun r39 S40 =>
  so_j (κ := tm_S → Option tm_S) (ρ := Option tm_S) (fun (S41 : tm_S) =>
  so_gd (so_in v11 12) fun _ =>
  so_gd (so_in (0 : Int32) 2) fun _ =>
  tm_let (tm_up S41 (10 + v11.toNatClampNeg) (0 : Int32).toNatClampNeg r33) fun S45 =>
  so_gd (so_in v11 12) fun _ =>
  so_gd (so_in (1 : Int32) 2) fun _ =>
  tm_let (tm_up S45 (10 + v11.toNatClampNeg) (1 : Int32).toNatClampNeg r39) fun S48 =>
  J14 S48)
  (fun J42 =>
  if (S40 0 5) = (0 : Int32) then
  (so_j (κ := Unit → Option tm_S) (ρ := Option tm_S) (fun (_u : Unit) =>
  (fX8_wrong (2 : Int32) (S37 0 4) S40).bind fun S53 =>
  J42 S53)
  (fun J50 =>
  if r33 = r39 then
  (J50 ())
  else
  ((fX8_isReadWall r33 r39 S40).bind fun r56 =>
  if r56 = (0 : Int32) then
  (J42 S40)
  else
  (J50 ()))))
  else
  (J42 S40)))
  else
  if r2 = (2 : Int32) then
  (so_gd (so_in v11 6) fun _ =>
  tm_b2 (fX8_number (0 : Int32) (9 : Int32) S10) fun r61 S62 =>
  so_gd (so_in (0 : Int32) 2) fun _ =>
  tm_let (tm_up S62 (36 + v11.toNatClampNeg) (0 : Int32).toNatClampNeg r61) fun S64 =>
  so_gd (so_in v11 6) fun _ =>
  tm_b2 (fX8_number (1 : Int32) (9 : Int32) S64) fun r67 S68 =>
  so_gd (so_in (1 : Int32) 2) fun _ =>
  tm_let (tm_up S68 (36 + v11.toNatClampNeg) (1 : Int32).toNatClampNeg r67) fun S70 =>
  J14 S70)
  else
  if r2 = (3 : Int32) then
  (tm_b2 (fX8_number (0 : Int32) (40 : Int32) S10) fun r73 S74 =>
  if (S74 0 5) = (0 : Int32) then
  (so_gd (so_in (3 : Int32) 4) fun _ =>
  tm_let (tm_up S74 3 (3 : Int32).toNatClampNeg r73) fun S77 =>
  J14 S77)
  else
  (J14 S74))
  else
  (tm_b2 (fX8_readHouse S10) fun r79 S80 =>
  tm_b2 (fX8_number (0 : Int32) (9 : Int32) S80) fun r82 S83 =>
  if (S83 0 5) = (0 : Int32) then
  (so_gd (so_in r79 8) fun _ =>
  tm_let (tm_up S83 7 r79.toNatClampNeg r82) fun S86 =>
  J14 S86)
  else
  (J14 S83))))
  (fun J12 =>
  if (3 : Int32) ≤ r2 then
  (J12 (0 : Int32))
  else
  (so_gd (so_in r2 4) fun _ =>
  J12 (S10 3 r2.toNatClampNeg))))
  else
  (some S4))
  (fun J5 =>
  if r2 = (-1 : Int32) then
  ((fX8_wrong (1 : Int32) (S3 0 4) S3).bind fun S100 =>
  J5 S100)
  else
  (so_j (κ := Unit → Option tm_S) (ρ := Option tm_S) (fun (_u : Unit) =>
  (fX8_wrong (3 : Int32) (S3 0 4) S3).bind fun S93 =>
  J5 S93)
  (fun J90 =>
  if (S3 0 7) = (60 : Int32) then
  (J90 ())
  else
  (if (3 : Int32) ≤ r2 then
  (J5 S3)
  else
  (so_gd (so_in r2 4) fun _ =>
  if (S3 3 r2.toNatClampNeg) = (fX8_mostOf r2) then
  (J90 ())
  else
  (J5 S3))))))
set_option maxHeartbeats 4000000 in
set_option maxRecDepth 100000 in
theorem wX8_clause {sg' : tm_S} {S0 : so_St}   (hT : tm_Sh S0) (sg : tm_S)  (hf : fX8_clause sg = some sg') : jx_Sp 5 yX8_clause (ws_ yX8_clause cX8_clause 6 (Option.none : Option Jvm.ClassFile.FieldType)) [.ref (tm_a 0)] (tm_j S0 sg) (.inl none) (tm_j S0 sg') := by
  refine jx_of (plainFor_of_name (by decide)) (so_le rfl) ?_
  show jg_ ((tm_j S0 sg), (tm_j S0 sg'), .inl none) kX8_clause 0 [(0, .ref (tm_a 0))] [] (tm_j S0 sg)
  unfold fX8_clause at hf
  refine jr_aload_n dX8_clause_0 rfl rfl jv_rr ?_
  obtain ⟨r2, S3, h1, hf⟩ := tm_b2E hf
  refine jr_callM (st := []) lk_X8_172_23 (wX8_kindHere hT sg h1) tm_k23 rfl rfl rfl (so_le rfl) (so_le rfl) dX8_clause_1 ?_
  refine jr_istore_n (lv' := [(0, .ref (tm_a 0)), (1, .int r2)]) dX8_clause_4 rfl (so_le rfl) rfl ?_
  refine jr_iload_n dX8_clause_5 rfl rfl ?_
  refine jr_iconst dX8_clause_6 ic_m1 ?_
  refine so_jE hf (fun J => ∀ (S4 : tm_S), J S4 = some sg' → jg_ (tm_j S0 sg, tm_j S0 sg', .inl none) kX8_clause 58 [(0, .ref (tm_a 0)), (1, .int r2)] [] (tm_j S0 S4)) (fun S4 hf => ?_) (fun J5 hJ5 hf => ?_)
  · refine jr_aload_n dX8_clause_58 rfl rfl jv_rr ?_
    refine tr_getI fl_X8_122_23 dX8_clause_59 ?_
    refine jr_if_eq (tgt := 66) dX8_clause_62 rfl (fun c6 => ?_) (fun c6 => ?_)
    · have hf := so_t c6 hf
      refine jr_aload_n dX8_clause_66 rfl rfl jv_rr ?_
      obtain ⟨S9, h7, hf⟩ := so_b hf
      refine jr_callM (st := []) lk_X8_159_23 (wX8_skipWord hT S4 h7) tm_k23 rfl rfl rfl (so_le rfl) (so_le rfl) dX8_clause_67 ?_
      refine jr_aload_n dX8_clause_70 rfl rfl jv_rr ?_
      refine jr_dup dX8_clause_71 rfl ?_
      refine tr_getI fl_X8_162_23 dX8_clause_72 ?_
      refine jr_iconst dX8_clause_75 ic_1 ?_
      refine jr_iadd dX8_clause_76 ?_
      refine tr_putI fp_X8_162_23 dX8_clause_77 ?_
      refine tm_let_e hf (fun S10 hf => ?_)
      refine jr_iload_n dX8_clause_80 rfl rfl ?_
      refine jr_iconst dX8_clause_81 ic_3 ?_
      refine so_jE hf (fun J => ∀ (v11 : Int32), J v11 = some sg' → jg_ (tm_j S0 sg, tm_j S0 sg', .inl none) kX8_clause 95 [(0, .ref (tm_a 0)), (1, .int r2)] [.int v11] (tm_j S0 S10)) (fun v11 hf => ?_) (fun J12 hJ12 hf => ?_)
      · refine jr_istore_n (lv' := [(0, .ref (tm_a 0)), (1, .int r2), (2, .int v11)]) dX8_clause_95 rfl (so_le rfl) rfl ?_
        refine jr_iload_n dX8_clause_96 rfl rfl ?_
        refine so_jE hf (fun J => ∀ (S13 : tm_S), J S13 = some sg' → jg_ (tm_j S0 sg, tm_j S0 sg', .inl none) kX8_clause 307 [(0, .ref (tm_a 0)), (1, .int r2)] [] (tm_j S0 S13)) (fun S13 hf => ?_) (fun J14 hJ14 hf => ?_)
        · refine jr_aload_n dX8_clause_307 rfl rfl jv_rr ?_
          refine jr_bipush dX8_clause_308 bp_59 ?_
          obtain ⟨S17, h15, hf⟩ := so_b hf
          refine jr_callM (st := []) lk_X8_185_23 (wX8_sign (59 : Int32) hT S13 h15) tm_k23 rfl rfl rfl (so_le rfl) (so_le rfl) dX8_clause_310 ?_
          refine jr_iload_n dX8_clause_313 rfl rfl ?_
          refine jr_iconst dX8_clause_314 ic_3 ?_
          refine jr_icmp_ge (tgt := 339) dX8_clause_315 rfl (fun c18 => ?_) (fun c18 => ?_)
          · have hf := so_t c18 hf
            obtain rfl := so_e1 hf
            exact jr_vret rfl dX8_clause_339
          · have hf := so_f c18 hf
            refine jr_aload_n dX8_clause_318 rfl rfl jv_rr ?_
            refine tr_getR (c := 3) hT (List.mem_of_getElem? (i := 2) rfl) fl_X8_20_23 dX8_clause_319 ?_
            refine jr_iload_n dX8_clause_322 rfl rfl ?_
            refine jr_dup2 dX8_clause_323 rfl rfl ?_
            obtain ⟨g19, hf⟩ := so_gdE hf
            refine tr_iaload hT (show tm_k 3 = 50 from rfl) rfl (so_inE g19) dX8_clause_324 ?_
            refine jr_aload_n dX8_clause_325 rfl rfl jv_rr ?_
            refine tr_getI fl_X8_122_23 dX8_clause_326 ?_
            refine so_jE hf (fun J => ∀ (v20 : Int32), J v20 = some sg' → jg_ (tm_j S0 sg, tm_j S0 sg', .inl none) kX8_clause 337 [] [.int v20, .int (S17 3 r2.toNatClampNeg), .int r2, .ref (tm_a 3)] (tm_j S0 S17)) (fun v20 hf => ?_) (fun J21 hJ21 hf => ?_)
            · refine jr_iadd dX8_clause_337 ?_
              obtain ⟨g22, hf⟩ := so_gdE hf
              refine tr_iastore hT (show tm_k 3 = 50 from rfl) rfl (so_inE g22) dX8_clause_338 ?_
              refine tm_let_e hf (fun S23 hf => ?_)
              obtain rfl := so_e1 hf
              exact jr_vret rfl dX8_clause_339
            · refine jr_if_ne (tgt := 336) dX8_clause_329 rfl (fun c24 => ?_) (fun c24 => ?_)
              · have hf := so_f c24 hf
                refine jr_iconst dX8_clause_336 ic_0 ?_
                refine jr_sub [] rfl ?_
                exact hJ21 (0 : Int32) hf
              · have hf := so_t c24 hf
                refine jr_iconst dX8_clause_332 ic_1 ?_
                refine jr_goto (tgt := 337) dX8_clause_333 rfl ?_
                refine jr_sub [] rfl ?_
                exact hJ21 (1 : Int32) hf
        · by_cases c25 : r2 = (0 : Int32)
          · have hf := so_t c25 hf
            refine jr_tsIn (tgt := 128) (0 : Int32) c25 dX8_clause_97 (by decide) (by decide) rfl rfl ?_
            refine jr_aload_n dX8_clause_128 rfl rfl jv_rr ?_
            refine tr_getR (c := 5) hT (List.mem_of_getElem? (i := 4) rfl) fl_X8_26_23 dX8_clause_129 ?_
            refine jr_iload_n dX8_clause_132 rfl rfl ?_
            refine jr_aload_n dX8_clause_133 rfl rfl jv_rr ?_
            refine jr_iconst dX8_clause_134 ic_0 ?_
            refine jr_bipush dX8_clause_135 bp_9 ?_
            obtain ⟨r27, S28, h26, hf⟩ := tm_b2E hf
            refine jr_callM (st := [.int v11, .ref (tm_a 5)]) lk_X8_168_23 (wX8_number (0 : Int32) (9 : Int32) hT S10 h26) tm_k23 rfl rfl rfl (so_le rfl) (so_le rfl) dX8_clause_137 ?_
            obtain ⟨g29, hf⟩ := so_gdE hf
            refine tr_iastore hT (show tm_k 5 = 50 from rfl) rfl (so_inE g29) dX8_clause_140 ?_
            refine tm_let_e hf (fun S30 hf => ?_)
            refine jr_goto (tgt := 307) dX8_clause_141 rfl ?_
            refine jr_sub [0, 1] rfl ?_
            exact hJ14 S30 hf
          · have hf := so_f c25 hf
            by_cases c31 : r2 = (1 : Int32)
            · have hf := so_t c31 hf
              refine jr_tsIn (tgt := 144) (1 : Int32) c31 dX8_clause_97 (by decide) (by decide) rfl rfl ?_
              refine jr_aload_n dX8_clause_144 rfl rfl jv_rr ?_
              obtain ⟨r33, S34, h32, hf⟩ := tm_b2E hf
              refine jr_callM (st := []) lk_X8_178_23 (wX8_readHouse hT S10 h32) tm_k23 rfl rfl rfl (so_le rfl) (so_le rfl) dX8_clause_145 ?_
              refine jr_istore_n (lv' := [(0, .ref (tm_a 0)), (1, .int r2), (2, .int v11), (3, .int r33)]) dX8_clause_148 rfl (so_le rfl) rfl ?_
              refine jr_aload_n dX8_clause_149 rfl rfl jv_rr ?_
              obtain ⟨S37, h35, hf⟩ := so_b hf
              refine jr_callM (st := []) lk_X8_128_23 (wX8_blanks hT S34 h35) tm_k23 rfl rfl rfl (so_le rfl) (so_le rfl) dX8_clause_150 ?_
              refine jr_aload_n dX8_clause_153 rfl rfl jv_rr ?_
              refine tr_getI fl_X8_115_23 dX8_clause_154 ?_
              refine jr_istore (lv' := [(0, .ref (tm_a 0)), (1, .int r2), (2, .int v11), (3, .int r33), (4, .int (S37 0 4))]) dX8_clause_157 (so_le rfl) rfl ?_
              refine jr_aload_n dX8_clause_159 rfl rfl jv_rr ?_
              obtain ⟨r39, S40, h38, hf⟩ := tm_b2E hf
              refine jr_callM (st := []) lk_X8_178_23 (wX8_readHouse hT S37 h38) tm_k23 rfl rfl rfl (so_le rfl) (so_le rfl) dX8_clause_160 ?_
              refine jr_istore (lv' := [(0, .ref (tm_a 0)), (1, .int r2), (2, .int v11), (3, .int r33), (4, .int (S37 0 4)), (5, .int r39)]) dX8_clause_163 (so_le rfl) rfl ?_
              refine jr_aload_n dX8_clause_165 rfl rfl jv_rr ?_
              refine tr_getI fl_X8_122_23 dX8_clause_166 ?_
              refine so_jE hf (fun J => ∀ (S41 : tm_S), J S41 = some sg' → jg_ (tm_j S0 sg, tm_j S0 sg', .inl none) kX8_clause 195 [(0, .ref (tm_a 0)), (1, .int r2), (2, .int v11), (3, .int r33), (5, .int r39)] [] (tm_j S0 S41)) (fun S41 hf => ?_) (fun J42 hJ42 hf => ?_)
              · refine jr_aload_n dX8_clause_195 rfl rfl jv_rr ?_
                refine tr_getR (c := 9) hT (List.mem_of_getElem? (i := 8) rfl) fl_X8_40_23 dX8_clause_196 ?_
                refine jr_iload_n dX8_clause_199 rfl rfl ?_
                obtain ⟨g43, hf⟩ := so_gdE hf
                refine tr_aaload (g' := 10) hT (show tm_k 9 = 56 from rfl) rfl rfl (so_inE g43) dX8_clause_200 ?_
                refine jr_iconst dX8_clause_201 ic_0 ?_
                refine jr_iload_n dX8_clause_202 rfl rfl ?_
                obtain ⟨g44, hf⟩ := so_gdE hf
                refine tr_iastore hT (tm_rk_9 (so_inE g43)) (tm_rl_9 (so_inE g43)) (so_inE g44) dX8_clause_203 ?_
                refine tm_let_e hf (fun S45 hf => ?_)
                refine jr_aload_n dX8_clause_204 rfl rfl jv_rr ?_
                refine tr_getR (c := 9) hT (List.mem_of_getElem? (i := 8) rfl) fl_X8_40_23 dX8_clause_205 ?_
                refine jr_iload_n dX8_clause_208 rfl rfl ?_
                obtain ⟨g46, hf⟩ := so_gdE hf
                refine tr_aaload (g' := 10) hT (show tm_k 9 = 56 from rfl) rfl rfl (so_inE g46) dX8_clause_209 ?_
                refine jr_iconst dX8_clause_210 ic_1 ?_
                refine jr_iload dX8_clause_211 rfl ?_
                obtain ⟨g47, hf⟩ := so_gdE hf
                refine tr_iastore hT (tm_rk_9 (so_inE g46)) (tm_rl_9 (so_inE g46)) (so_inE g47) dX8_clause_213 ?_
                refine tm_let_e hf (fun S48 hf => ?_)
                refine jr_goto (tgt := 307) dX8_clause_214 rfl ?_
                refine jr_sub [0, 1] rfl ?_
                exact hJ14 S48 hf
              · refine jr_if_ne (tgt := 195) dX8_clause_169 rfl (fun c49 => ?_) (fun c49 => ?_)
                · have hf := so_f c49 hf
                  refine jr_sub [0, 1, 2, 3, 5] rfl ?_
                  exact hJ42 S40 hf
                · have hf := so_t c49 hf
                  refine jr_iload_n dX8_clause_172 rfl rfl ?_
                  refine jr_iload dX8_clause_173 rfl ?_
                  refine so_jE hf (fun J => ∀ (u0 : Unit), J u0 = some sg' → jg_ (tm_j S0 sg, tm_j S0 sg', .inl none) kX8_clause 188 [(0, .ref (tm_a 0)), (1, .int r2), (2, .int v11), (3, .int r33), (4, .int (S37 0 4)), (5, .int r39)] [] (tm_j S0 S40)) (fun _u hf => ?_) (fun J50 hJ50 hf => ?_)
                  · refine jr_aload_n dX8_clause_188 rfl rfl jv_rr ?_
                    refine jr_iconst dX8_clause_189 ic_2 ?_
                    refine jr_iload dX8_clause_190 rfl ?_
                    obtain ⟨S53, h51, hf⟩ := so_b hf
                    refine jr_callM (st := []) lk_X8_135_23 (wX8_wrong (2 : Int32) (S37 0 4) hT S40 h51) tm_k23 rfl rfl rfl (so_le rfl) (so_le rfl) dX8_clause_192 ?_
                    refine jr_sub [0, 1, 2, 3, 5] rfl ?_
                    exact hJ42 S53 hf
                  · refine jr_icmp_eq (tgt := 188) dX8_clause_175 rfl (fun c54 => ?_) (fun c54 => ?_)
                    · have hf := so_t c54 hf
                      exact hJ50 () hf
                    · have hf := so_f c54 hf
                      refine jr_aload_n dX8_clause_178 rfl rfl jv_rr ?_
                      refine jr_iload_n dX8_clause_179 rfl rfl ?_
                      refine jr_iload dX8_clause_180 rfl ?_
                      obtain ⟨r56, h55, hf⟩ := so_b hf
                      refine jr_callM (st := []) lk_X8_181_23 (wX8_isReadWall r33 r39 hT S40 h55) tm_k23 rfl rfl rfl (so_le rfl) (so_le rfl) dX8_clause_182 ?_
                      refine jr_if_eq (tgt := 195) dX8_clause_185 rfl (fun c57 => ?_) (fun c57 => ?_)
                      · have hf := so_t c57 hf
                        refine jr_sub [0, 1, 2, 3, 5] rfl ?_
                        exact hJ42 S40 hf
                      · have hf := so_f c57 hf
                        exact hJ50 () hf
            · have hf := so_f c31 hf
              by_cases c58 : r2 = (2 : Int32)
              · have hf := so_t c58 hf
                refine jr_tsIn (tgt := 217) (2 : Int32) c58 dX8_clause_97 (by decide) (by decide) rfl rfl ?_
                refine jr_aload_n dX8_clause_217 rfl rfl jv_rr ?_
                refine tr_getR (c := 35) hT (List.mem_of_getElem? (i := 10) rfl) fl_X8_46_23 dX8_clause_218 ?_
                refine jr_iload_n dX8_clause_221 rfl rfl ?_
                obtain ⟨g59, hf⟩ := so_gdE hf
                refine tr_aaload (g' := 36) hT (show tm_k 35 = 56 from rfl) rfl rfl (so_inE g59) dX8_clause_222 ?_
                refine jr_iconst dX8_clause_223 ic_0 ?_
                refine jr_aload_n dX8_clause_224 rfl rfl jv_rr ?_
                refine jr_iconst dX8_clause_225 ic_0 ?_
                refine jr_bipush dX8_clause_226 bp_9 ?_
                obtain ⟨r61, S62, h60, hf⟩ := tm_b2E hf
                refine jr_callM (st := [.int (0 : Int32), .ref (tm_a (36 + v11.toNatClampNeg))]) lk_X8_168_23 (wX8_number (0 : Int32) (9 : Int32) hT S10 h60) tm_k23 rfl rfl rfl (so_le rfl) (so_le rfl) dX8_clause_228 ?_
                obtain ⟨g63, hf⟩ := so_gdE hf
                refine tr_iastore hT (tm_rk_35 (so_inE g59)) (tm_rl_35 (so_inE g59)) (so_inE g63) dX8_clause_231 ?_
                refine tm_let_e hf (fun S64 hf => ?_)
                refine jr_aload_n dX8_clause_232 rfl rfl jv_rr ?_
                refine tr_getR (c := 35) hT (List.mem_of_getElem? (i := 10) rfl) fl_X8_46_23 dX8_clause_233 ?_
                refine jr_iload_n dX8_clause_236 rfl rfl ?_
                obtain ⟨g65, hf⟩ := so_gdE hf
                refine tr_aaload (g' := 36) hT (show tm_k 35 = 56 from rfl) rfl rfl (so_inE g65) dX8_clause_237 ?_
                refine jr_iconst dX8_clause_238 ic_1 ?_
                refine jr_aload_n dX8_clause_239 rfl rfl jv_rr ?_
                refine jr_iconst dX8_clause_240 ic_1 ?_
                refine jr_bipush dX8_clause_241 bp_9 ?_
                obtain ⟨r67, S68, h66, hf⟩ := tm_b2E hf
                refine jr_callM (st := [.int (1 : Int32), .ref (tm_a (36 + v11.toNatClampNeg))]) lk_X8_168_23 (wX8_number (1 : Int32) (9 : Int32) hT S64 h66) tm_k23 rfl rfl rfl (so_le rfl) (so_le rfl) dX8_clause_243 ?_
                obtain ⟨g69, hf⟩ := so_gdE hf
                refine tr_iastore hT (tm_rk_35 (so_inE g65)) (tm_rl_35 (so_inE g65)) (so_inE g69) dX8_clause_246 ?_
                refine tm_let_e hf (fun S70 hf => ?_)
                refine jr_goto (tgt := 307) dX8_clause_247 rfl ?_
                refine jr_sub [0, 1] rfl ?_
                exact hJ14 S70 hf
              · have hf := so_f c58 hf
                by_cases c71 : r2 = (3 : Int32)
                · have hf := so_t c71 hf
                  refine jr_tsIn (tgt := 250) (3 : Int32) c71 dX8_clause_97 (by decide) (by decide) rfl rfl ?_
                  refine jr_aload_n dX8_clause_250 rfl rfl jv_rr ?_
                  refine jr_iconst dX8_clause_251 ic_0 ?_
                  refine jr_bipush dX8_clause_252 bp_40 ?_
                  obtain ⟨r73, S74, h72, hf⟩ := tm_b2E hf
                  refine jr_callM (st := []) lk_X8_168_23 (wX8_number (0 : Int32) (40 : Int32) hT S10 h72) tm_k23 rfl rfl rfl (so_le rfl) (so_le rfl) dX8_clause_254 ?_
                  refine jr_istore_n (lv' := [(0, .ref (tm_a 0)), (1, .int r2), (2, .int v11), (3, .int r73)]) dX8_clause_257 rfl (so_le rfl) rfl ?_
                  refine jr_aload_n dX8_clause_258 rfl rfl jv_rr ?_
                  refine tr_getI fl_X8_122_23 dX8_clause_259 ?_
                  refine jr_if_ne (tgt := 307) dX8_clause_262 rfl (fun c75 => ?_) (fun c75 => ?_)
                  · have hf := so_f c75 hf
                    refine jr_sub [0, 1] rfl ?_
                    exact hJ14 S74 hf
                  · have hf := so_t c75 hf
                    refine jr_aload_n dX8_clause_265 rfl rfl jv_rr ?_
                    refine tr_getR (c := 3) hT (List.mem_of_getElem? (i := 2) rfl) fl_X8_20_23 dX8_clause_266 ?_
                    refine jr_iconst dX8_clause_269 ic_3 ?_
                    refine jr_iload_n dX8_clause_270 rfl rfl ?_
                    obtain ⟨g76, hf⟩ := so_gdE hf
                    refine tr_iastore hT (show tm_k 3 = 50 from rfl) rfl (so_inE g76) dX8_clause_271 ?_
                    refine tm_let_e hf (fun S77 hf => ?_)
                    refine jr_goto (tgt := 307) dX8_clause_272 rfl ?_
                    refine jr_sub [0, 1] rfl ?_
                    exact hJ14 S77 hf
                · have hf := so_f c71 hf
                  refine jr_tsOut (tgt := 275) [(0 : Int32), (1 : Int32), (2 : Int32), (3 : Int32)] (by decide) (List.forall_mem_cons.mpr ⟨c25, List.forall_mem_cons.mpr ⟨c31, List.forall_mem_cons.mpr ⟨c58, List.forall_mem_cons.mpr ⟨c71, fun _ h => by cases h⟩⟩⟩⟩) dX8_clause_97 rfl ?_
                  refine jr_aload_n dX8_clause_275 rfl rfl jv_rr ?_
                  obtain ⟨r79, S80, h78, hf⟩ := tm_b2E hf
                  refine jr_callM (st := []) lk_X8_178_23 (wX8_readHouse hT S10 h78) tm_k23 rfl rfl rfl (so_le rfl) (so_le rfl) dX8_clause_276 ?_
                  refine jr_istore_n (lv' := [(0, .ref (tm_a 0)), (1, .int r2), (2, .int v11), (3, .int r79)]) dX8_clause_279 rfl (so_le rfl) rfl ?_
                  refine jr_aload_n dX8_clause_280 rfl rfl jv_rr ?_
                  refine jr_iconst dX8_clause_281 ic_0 ?_
                  refine jr_bipush dX8_clause_282 bp_9 ?_
                  obtain ⟨r82, S83, h81, hf⟩ := tm_b2E hf
                  refine jr_callM (st := []) lk_X8_168_23 (wX8_number (0 : Int32) (9 : Int32) hT S80 h81) tm_k23 rfl rfl rfl (so_le rfl) (so_le rfl) dX8_clause_284 ?_
                  refine jr_istore (lv' := [(0, .ref (tm_a 0)), (1, .int r2), (2, .int v11), (3, .int r79), (4, .int r82)]) dX8_clause_287 (so_le rfl) rfl ?_
                  refine jr_aload_n dX8_clause_289 rfl rfl jv_rr ?_
                  refine tr_getI fl_X8_122_23 dX8_clause_290 ?_
                  refine jr_if_ne (tgt := 307) dX8_clause_293 rfl (fun c84 => ?_) (fun c84 => ?_)
                  · have hf := so_f c84 hf
                    refine jr_sub [0, 1] rfl ?_
                    exact hJ14 S83 hf
                  · have hf := so_t c84 hf
                    refine jr_aload_n dX8_clause_296 rfl rfl jv_rr ?_
                    refine tr_getR (c := 7) hT (List.mem_of_getElem? (i := 6) rfl) fl_X8_32_23 dX8_clause_297 ?_
                    refine jr_iload_n dX8_clause_300 rfl rfl ?_
                    refine jr_iload dX8_clause_301 rfl ?_
                    obtain ⟨g85, hf⟩ := so_gdE hf
                    refine tr_iastore hT (show tm_k 7 = 50 from rfl) rfl (so_inE g85) dX8_clause_303 ?_
                    refine tm_let_e hf (fun S86 hf => ?_)
                    refine jr_goto (tgt := 307) dX8_clause_304 rfl ?_
                    refine jr_sub [0, 1] rfl ?_
                    exact hJ14 S86 hf
      · refine jr_icmp_ge (tgt := 94) dX8_clause_82 rfl (fun c87 => ?_) (fun c87 => ?_)
        · have hf := so_t c87 hf
          refine jr_iconst dX8_clause_94 ic_0 ?_
          exact hJ12 (0 : Int32) hf
        · have hf := so_f c87 hf
          refine jr_aload_n dX8_clause_85 rfl rfl jv_rr ?_
          refine tr_getR (c := 3) hT (List.mem_of_getElem? (i := 2) rfl) fl_X8_20_23 dX8_clause_86 ?_
          refine jr_iload_n dX8_clause_89 rfl rfl ?_
          obtain ⟨g88, hf⟩ := so_gdE hf
          refine tr_iaload hT (show tm_k 3 = 50 from rfl) rfl (so_inE g88) dX8_clause_90 ?_
          refine jr_goto (tgt := 95) dX8_clause_91 rfl ?_
          exact hJ12 (S10 3 r2.toNatClampNeg) hf
    · have hf := so_f c6 hf
      obtain rfl := so_e1 hf
      exact jr_vret rfl dX8_clause_65
  · refine jr_icmp_ne (tgt := 22) dX8_clause_7 rfl (fun c89 => ?_) (fun c89 => ?_)
    · have hf := so_f c89 hf
      refine jr_aload_n dX8_clause_22 rfl rfl jv_rr ?_
      refine tr_getI fl_X8_162_23 dX8_clause_23 ?_
      refine jr_bipush dX8_clause_26 bp_60 ?_
      refine so_jE hf (fun J => ∀ (u0 : Unit), J u0 = some sg' → jg_ (tm_j S0 sg, tm_j S0 sg', .inl none) kX8_clause 49 [(0, .ref (tm_a 0)), (1, .int r2)] [] (tm_j S0 S3)) (fun _u hf => ?_) (fun J90 hJ90 hf => ?_)
      · refine jr_aload_n dX8_clause_49 rfl rfl jv_rr ?_
        refine jr_iconst dX8_clause_50 ic_3 ?_
        refine jr_aload_n dX8_clause_51 rfl rfl jv_rr ?_
        refine tr_getI fl_X8_115_23 dX8_clause_52 ?_
        obtain ⟨S93, h91, hf⟩ := so_b hf
        refine jr_callM (st := []) lk_X8_135_23 (wX8_wrong (3 : Int32) (S3 0 4) hT S3 h91) tm_k23 rfl rfl rfl (so_le rfl) (so_le rfl) dX8_clause_55 ?_
        exact hJ5 S93 hf
      · refine jr_icmp_eq (tgt := 49) dX8_clause_28 rfl (fun c94 => ?_) (fun c94 => ?_)
        · have hf := so_t c94 hf
          exact hJ90 () hf
        · have hf := so_f c94 hf
          refine jr_iload_n dX8_clause_31 rfl rfl ?_
          refine jr_iconst dX8_clause_32 ic_3 ?_
          refine jr_icmp_ge (tgt := 58) dX8_clause_33 rfl (fun c95 => ?_) (fun c95 => ?_)
          · have hf := so_t c95 hf
            exact hJ5 S3 hf
          · have hf := so_f c95 hf
            refine jr_aload_n dX8_clause_36 rfl rfl jv_rr ?_
            refine tr_getR (c := 3) hT (List.mem_of_getElem? (i := 2) rfl) fl_X8_20_23 dX8_clause_37 ?_
            refine jr_iload_n dX8_clause_40 rfl rfl ?_
            obtain ⟨g96, hf⟩ := so_gdE hf
            refine tr_iaload hT (show tm_k 3 = 50 from rfl) rfl (so_inE g96) dX8_clause_41 ?_
            refine jr_iload_n dX8_clause_42 rfl rfl ?_
            refine jr_call (st := [.int (S3 3 r2.toNatClampNeg)]) lk_X8_175 (wX8_mostOf r2 hT S3 rfl) jk_r0 rfl rfl (so_le rfl) (so_le rfl) dX8_clause_43 ?_
            refine jr_icmp_ne (tgt := 58) dX8_clause_46 rfl (fun c97 => ?_) (fun c97 => ?_)
            · have hf := so_f c97 hf
              exact hJ5 S3 hf
            · have hf := so_t c97 hf
              exact hJ90 () hf
    · have hf := so_t c89 hf
      refine jr_aload_n dX8_clause_10 rfl rfl jv_rr ?_
      refine jr_iconst dX8_clause_11 ic_1 ?_
      refine jr_aload_n dX8_clause_12 rfl rfl jv_rr ?_
      refine tr_getI fl_X8_115_23 dX8_clause_13 ?_
      obtain ⟨S100, h98, hf⟩ := so_b hf
      refine jr_callM (st := []) lk_X8_135_23 (wX8_wrong (1 : Int32) (S3 0 4) hT S3 h98) tm_k23 rfl rfl rfl (so_le rfl) (so_le rfl) dX8_clause_16 ?_
      refine jr_goto (tgt := 58) dX8_clause_19 rfl ?_
      exact hJ5 S100 hf

/- X8_ends -/
abbrev kX8_ends : jx_K := (cX8_ends, 1, RX8, 0, (Option.some Jvm.ClassFile.FieldType.int), "ends", [])
def fX8_ends  (sg : tm_S) : Option (Int32 × tm_S) :=
  tm_let (tm_up sg 0 3 (sg 0 6)) fun S1 =>
  some (((S1 0 5) - (10 : Int32)), S1)
set_option maxHeartbeats 4000000 in
set_option maxRecDepth 100000 in
theorem wX8_ends {res : Int32} {sg' : tm_S} {S0 : so_St}   (hT : tm_Sh S0) (sg : tm_S)  (hf : fX8_ends sg = some (res, sg')) : jx_Sp 0 yX8_ends (ws_ yX8_ends cX8_ends 1 (Option.some Jvm.ClassFile.FieldType.int)) [.ref (tm_a 0)] (tm_j S0 sg) (.inl (some (.int res))) (tm_j S0 sg') := by
  refine jx_of (plainFor_of_name (by decide)) (so_le rfl) ?_
  show jg_ ((tm_j S0 sg), (tm_j S0 sg'), .inl (some (.int res))) kX8_ends 0 [(0, .ref (tm_a 0))] [] (tm_j S0 sg)
  unfold fX8_ends at hf
  refine jr_aload_n dX8_ends_0 rfl rfl jv_rr ?_
  refine jr_aload_n dX8_ends_1 rfl rfl jv_rr ?_
  refine tr_getI fl_X8_125_23 dX8_ends_2 ?_
  refine tr_putI fp_X8_9_23 dX8_ends_5 ?_
  refine tm_let_e hf (fun S1 hf => ?_)
  refine jr_aload_n dX8_ends_8 rfl rfl jv_rr ?_
  refine tr_getI fl_X8_122_23 dX8_ends_9 ?_
  refine jr_bipush dX8_ends_12 bp_10 ?_
  refine jr_isub dX8_ends_14 ?_
  obtain ⟨rfl, rfl⟩ := so_e2 hf
  exact jr_iret rfl rfl dX8_ends_15

/- X8_terrace -/
abbrev kX8_terrace : jx_K := (cX8_terrace, 2, RX8, 6, (Option.some Jvm.ClassFile.FieldType.int), "terrace", [])
def LX8_terrace_42  (k71 : tm_S → Option (Int32 × tm_S)) : Nat → tm_S → Option (Int32 × tm_S)
  | 0, _ => none
  | n + 1, S14 =>
    if (S14 0 5) = (0 : Int32) then
    (if (S14 0 2) ≤ (S14 0 4) then
    (k71 S14)
    else
    ((fX8_clause S14).bind fun S19 =>
    (fX8_blanks S19).bind fun S22 =>
    LX8_terrace_42 k71 n S22))
    else
    (k71 S14)
set_option maxHeartbeats 4000000 in
set_option maxRecDepth 100000 in
theorem wX8_terrace_42 {res : Int32} {sg' : tm_S} {S0 : so_St} {sg0 : tm_S}    (hT : tm_Sh S0)   (k71 : tm_S → Option (Int32 × tm_S)) (h71 : ∀ (S23 : tm_S), k71 S23 = some (res, sg') → jg_ (tm_j S0 sg0, tm_j S0 sg', .inl (some (.int res))) kX8_terrace 71 [(0, .ref (tm_a 0))] [] (tm_j S0 S23)) : ∀ (n : Nat) (S14 : tm_S), LX8_terrace_42 k71 n S14 = some (res, sg') → jg_ (tm_j S0 sg0, tm_j S0 sg', .inl (some (.int res))) kX8_terrace 42 [(0, .ref (tm_a 0))] [] (tm_j S0 S14) := by
  intro n
  induction n with
  | zero =>
    intro S14 hf
    exact so_no hf
  | succ n ih =>
    intro S14 hf
    rw [LX8_terrace_42] at hf
    refine jr_aload_n dX8_terrace_42 rfl rfl jv_rr ?_
    refine tr_getI fl_X8_122_23 dX8_terrace_43 ?_
    refine jr_if_ne (tgt := 71) dX8_terrace_46 rfl (fun c15 => ?_) (fun c15 => ?_)
    · have hf := so_f c15 hf
      exact h71 S14 hf
    · have hf := so_t c15 hf
      refine jr_aload_n dX8_terrace_49 rfl rfl jv_rr ?_
      refine tr_getI fl_X8_115_23 dX8_terrace_50 ?_
      refine jr_aload_n dX8_terrace_53 rfl rfl jv_rr ?_
      refine tr_getI fl_X8_112_23 dX8_terrace_54 ?_
      refine jr_icmp_ge (tgt := 71) dX8_terrace_57 rfl (fun c16 => ?_) (fun c16 => ?_)
      · have hf := so_t c16 hf
        exact h71 S14 hf
      · have hf := so_f c16 hf
        refine jr_aload_n dX8_terrace_60 rfl rfl jv_rr ?_
        obtain ⟨S19, h17, hf⟩ := so_b hf
        refine jr_callM (st := []) lk_X8_196_23 (wX8_clause hT S14 h17) tm_k23 rfl rfl rfl (so_le rfl) (so_le rfl) dX8_terrace_61 ?_
        refine jr_aload_n dX8_terrace_64 rfl rfl jv_rr ?_
        obtain ⟨S22, h20, hf⟩ := so_b hf
        refine jr_callM (st := []) lk_X8_128_23 (wX8_blanks hT S19 h20) tm_k23 rfl rfl rfl (so_le rfl) (so_le rfl) dX8_terrace_65 ?_
        refine jr_goto (tgt := 42) dX8_terrace_68 rfl ?_
        exact ih S22 hf
def fX8_terrace (a1 : Int32) (sg : tm_S) : Option (Int32 × tm_S) :=
  tm_let (tm_up sg 0 0 (0 : Int32)) fun S1 =>
  so_j (κ := Int32 → Option (Int32 × tm_S)) (ρ := Option (Int32 × tm_S)) (fun (v2 : Int32) =>
  tm_b2 (fX8_bad v2 (1 : Int32) (1 : Int32) S1) fun r5 S6 =>
  if r5 = (0 : Int32) then
  ((fX8_starts a1 S6).bind fun S10 =>
  (fX8_tellsNothing S10).bind fun S13 =>
  LX8_terrace_42 (fun (S24 : tm_S) =>
  if (S24 0 5) = (0 : Int32) then
  (tm_let (tm_up S24 0 3 (-1 : Int32)) fun S26 =>
  (fX8_beginsAnew S26).bind fun S29 =>
  so_gd (so_in (2 : Int32) 4) fun _ =>
  some ((S29 4 (2 : Int32).toNatClampNeg), S29))
  else
  (tm_b2 (fX8_ends S24) fun r32 S33 =>
  some (r32, S33))) so_N S13)
  else
  (some ((0 : Int32), S6)))
  (fun J3 =>
  if (fX8_in a1 (0 : Int32) (S1 0 1)) = (0 : Int32) then
  (J3 (1 : Int32))
  else
  (J3 (0 : Int32)))
set_option maxHeartbeats 4000000 in
set_option maxRecDepth 100000 in
theorem wX8_terrace {res : Int32} {sg' : tm_S} {S0 : so_St}  (a1 : Int32) (hT : tm_Sh S0) (sg : tm_S)  (hf : fX8_terrace a1 sg = some (res, sg')) : jx_Sp 6 yX8_terrace (ws_ yX8_terrace cX8_terrace 2 (Option.some Jvm.ClassFile.FieldType.int)) [.ref (tm_a 0), .int a1] (tm_j S0 sg) (.inl (some (.int res))) (tm_j S0 sg') := by
  refine jx_of (plainFor_of_name (by decide)) (so_le rfl) ?_
  show jg_ ((tm_j S0 sg), (tm_j S0 sg'), .inl (some (.int res))) kX8_terrace 0 [(0, .ref (tm_a 0)), (1, .int a1)] [] (tm_j S0 sg)
  unfold fX8_terrace at hf
  refine jr_aload_n dX8_terrace_0 rfl rfl jv_rr ?_
  refine jr_iconst dX8_terrace_1 ic_0 ?_
  refine tr_putI fp_X8_106_23 dX8_terrace_2 ?_
  refine tm_let_e hf (fun S1 hf => ?_)
  refine jr_aload_n dX8_terrace_5 rfl rfl jv_rr ?_
  refine jr_iload_n dX8_terrace_6 rfl rfl ?_
  refine jr_iconst dX8_terrace_7 ic_0 ?_
  refine jr_aload_n dX8_terrace_8 rfl rfl jv_rr ?_
  refine tr_getI fl_X8_109_23 dX8_terrace_9 ?_
  refine jr_call (st := [.ref (tm_a 0)]) lk_X8_140 (wX8_in a1 (0 : Int32) (S1 0 1) hT S1 rfl) jk_r0 rfl rfl (so_le rfl) (so_le rfl) dX8_terrace_12 ?_
  refine so_jE hf (fun J => ∀ (v2 : Int32), J v2 = some (res, sg') → jg_ (tm_j S0 sg, tm_j S0 sg', .inl (some (.int res))) kX8_terrace 23 [(0, .ref (tm_a 0)), (1, .int a1)] [.int v2, .ref (tm_a 0)] (tm_j S0 S1)) (fun v2 hf => ?_) (fun J3 hJ3 hf => ?_)
  · refine jr_iconst dX8_terrace_23 ic_1 ?_
    refine jr_iconst dX8_terrace_24 ic_1 ?_
    obtain ⟨r5, S6, h4, hf⟩ := tm_b2E hf
    refine jr_callM (st := []) lk_X8_189_23 (wX8_bad v2 (1 : Int32) (1 : Int32) hT S1 h4) tm_k23 rfl rfl rfl (so_le rfl) (so_le rfl) dX8_terrace_25 ?_
    refine jr_if_eq (tgt := 33) dX8_terrace_28 rfl (fun c7 => ?_) (fun c7 => ?_)
    · have hf := so_t c7 hf
      refine jr_aload_n dX8_terrace_33 rfl rfl jv_rr ?_
      refine jr_iload_n dX8_terrace_34 rfl rfl ?_
      obtain ⟨S10, h8, hf⟩ := so_b hf
      refine jr_callM (st := []) lk_X8_193_23 (wX8_starts a1 hT S6 h8) tm_k23 rfl rfl rfl (so_le rfl) (so_le rfl) dX8_terrace_35 ?_
      refine jr_aload_n dX8_terrace_38 rfl rfl jv_rr ?_
      obtain ⟨S13, h11, hf⟩ := so_b hf
      refine jr_callM (st := []) lk_X8_100_23 (wX8_tellsNothing hT S10 h11) tm_k23 rfl rfl rfl (so_le rfl) (so_le rfl) dX8_terrace_39 ?_
      refine jr_sub [0] rfl ?_
      refine wX8_terrace_42 hT _ (fun S24 hf => ?_) so_N S13 hf
      refine jr_aload_n dX8_terrace_71 rfl rfl jv_rr ?_
      refine tr_getI fl_X8_122_23 dX8_terrace_72 ?_
      refine jr_if_eq (tgt := 83) dX8_terrace_75 rfl (fun c25 => ?_) (fun c25 => ?_)
      · have hf := so_t c25 hf
        refine jr_aload_n dX8_terrace_83 rfl rfl jv_rr ?_
        refine jr_iconst dX8_terrace_84 ic_m1 ?_
        refine tr_putI fp_X8_9_23 dX8_terrace_85 ?_
        refine tm_let_e hf (fun S26 hf => ?_)
        refine jr_aload_n dX8_terrace_88 rfl rfl jv_rr ?_
        obtain ⟨S29, h27, hf⟩ := so_b hf
        refine jr_callM (st := []) lk_X8_103_23 (wX8_beginsAnew hT S26 h27) tm_k23 rfl rfl rfl (so_le rfl) (so_le rfl) dX8_terrace_89 ?_
        refine jr_aload_n dX8_terrace_92 rfl rfl jv_rr ?_
        refine tr_getR (c := 4) hT (List.mem_of_getElem? (i := 3) rfl) fl_X8_23_23 dX8_terrace_93 ?_
        refine jr_iconst dX8_terrace_96 ic_2 ?_
        obtain ⟨g30, hf⟩ := so_gdE hf
        refine tr_iaload hT (show tm_k 4 = 50 from rfl) rfl (so_inE g30) dX8_terrace_97 ?_
        obtain ⟨rfl, rfl⟩ := so_e2 hf
        exact jr_iret rfl rfl dX8_terrace_98
      · have hf := so_f c25 hf
        refine jr_aload_n dX8_terrace_78 rfl rfl jv_rr ?_
        obtain ⟨r32, S33, h31, hf⟩ := tm_b2E hf
        refine jr_callM (st := []) lk_X8_199_23 (wX8_ends hT S24 h31) tm_k23 rfl rfl rfl (so_le rfl) (so_le rfl) dX8_terrace_79 ?_
        obtain ⟨rfl, rfl⟩ := so_e2 hf
        exact jr_iret rfl rfl dX8_terrace_82
    · have hf := so_f c7 hf
      refine jr_iconst dX8_terrace_31 ic_0 ?_
      obtain ⟨rfl, rfl⟩ := so_e2 hf
      exact jr_iret rfl rfl dX8_terrace_32
  · refine jr_if_ne (tgt := 22) dX8_terrace_15 rfl (fun c34 => ?_) (fun c34 => ?_)
    · have hf := so_f c34 hf
      refine jr_iconst dX8_terrace_22 ic_0 ?_
      exact hJ3 (0 : Int32) hf
    · have hf := so_t c34 hf
      refine jr_iconst dX8_terrace_18 ic_1 ?_
      refine jr_goto (tgt := 23) dX8_terrace_19 rfl ?_
      exact hJ3 (1 : Int32) hf

/- X8_opensOne -/
abbrev kX8_opensOne : jx_K := (cX8_opensOne, 1, RX8, 1, (Option.some Jvm.ClassFile.FieldType.boolean), "opensOne", [])
def fX8_opensOne  (sg : tm_S) : Option (Int32 × tm_S) :=
  so_j (κ := tm_S → Option (Int32 × tm_S)) (ρ := Option (Int32 × tm_S)) (fun (S1 : tm_S) =>
  if (S1 0 5) = (0 : Int32) then
  (some ((1 : Int32), S1))
  else
  (some ((0 : Int32), S1)))
  (fun J2 =>
  so_j (κ := Unit → Option (Int32 × tm_S)) (ρ := Option (Int32 × tm_S)) (fun (_u : Unit) =>
  if (sg 0 5) = (0 : Int32) then
  (tm_let (tm_up sg 0 8 ((sg 0 8) + (1 : Int32))) fun S6 =>
  J2 S6)
  else
  (J2 sg))
  (fun J4 =>
  if (sg 0 5) = (0 : Int32) then
  (if (sg 0 8) = (6 : Int32) then
  ((fX8_wrong (3 : Int32) (sg 0 4) sg).bind fun S11 =>
  J2 S11)
  else
  (J4 ()))
  else
  (J4 ())))
set_option maxHeartbeats 4000000 in
set_option maxRecDepth 100000 in
theorem wX8_opensOne {res : Int32} {sg' : tm_S} {S0 : so_St}   (hT : tm_Sh S0) (sg : tm_S)  (hf : fX8_opensOne sg = some (res, sg')) : jx_Sp 1 yX8_opensOne (ws_ yX8_opensOne cX8_opensOne 1 (Option.some Jvm.ClassFile.FieldType.boolean)) [.ref (tm_a 0)] (tm_j S0 sg) (.inl (some (.int res))) (tm_j S0 sg') := by
  refine jx_of (plainFor_of_name (by decide)) (so_le rfl) ?_
  show jg_ ((tm_j S0 sg), (tm_j S0 sg'), .inl (some (.int res))) kX8_opensOne 0 [(0, .ref (tm_a 0))] [] (tm_j S0 sg)
  unfold fX8_opensOne at hf
  refine jr_aload_n dX8_opensOne_0 rfl rfl jv_rr ?_
  refine tr_getI fl_X8_122_23 dX8_opensOne_1 ?_
  refine so_jE hf (fun J => ∀ (S1 : tm_S), J S1 = some (res, sg') → jg_ (tm_j S0 sg, tm_j S0 sg', .inl (some (.int res))) kX8_opensOne 45 [(0, .ref (tm_a 0))] [] (tm_j S0 S1)) (fun S1 hf => ?_) (fun J2 hJ2 hf => ?_)
  · refine jr_aload_n dX8_opensOne_45 rfl rfl jv_rr ?_
    refine tr_getI fl_X8_122_23 dX8_opensOne_46 ?_
    refine jr_if_ne (tgt := 56) dX8_opensOne_49 rfl (fun c3 => ?_) (fun c3 => ?_)
    · have hf := so_f c3 hf
      refine jr_iconst dX8_opensOne_56 ic_0 ?_
      obtain ⟨rfl, rfl⟩ := so_e2 hf
      exact jr_iret rfl rfl dX8_opensOne_57
    · have hf := so_t c3 hf
      refine jr_iconst dX8_opensOne_52 ic_1 ?_
      refine jr_goto (tgt := 57) dX8_opensOne_53 rfl ?_
      obtain ⟨rfl, rfl⟩ := so_e2 hf
      exact jr_iret rfl rfl dX8_opensOne_57
  · refine so_jE hf (fun J => ∀ (u0 : Unit), J u0 = some (res, sg') → jg_ (tm_j S0 sg, tm_j S0 sg', .inl (some (.int res))) kX8_opensOne 28 [(0, .ref (tm_a 0))] [] (tm_j S0 sg)) (fun _u hf => ?_) (fun J4 hJ4 hf => ?_)
    · refine jr_aload_n dX8_opensOne_28 rfl rfl jv_rr ?_
      refine tr_getI fl_X8_122_23 dX8_opensOne_29 ?_
      refine jr_if_ne (tgt := 45) dX8_opensOne_32 rfl (fun c5 => ?_) (fun c5 => ?_)
      · have hf := so_f c5 hf
        exact hJ2 sg hf
      · have hf := so_t c5 hf
        refine jr_aload_n dX8_opensOne_35 rfl rfl jv_rr ?_
        refine jr_dup dX8_opensOne_36 rfl ?_
        refine tr_getI fl_X8_165_23 dX8_opensOne_37 ?_
        refine jr_iconst dX8_opensOne_40 ic_1 ?_
        refine jr_iadd dX8_opensOne_41 ?_
        refine tr_putI fp_X8_165_23 dX8_opensOne_42 ?_
        refine tm_let_e hf (fun S6 hf => ?_)
        exact hJ2 S6 hf
    · refine jr_if_ne (tgt := 28) dX8_opensOne_4 rfl (fun c7 => ?_) (fun c7 => ?_)
      · have hf := so_f c7 hf
        exact hJ4 () hf
      · have hf := so_t c7 hf
        refine jr_aload_n dX8_opensOne_7 rfl rfl jv_rr ?_
        refine tr_getI fl_X8_165_23 dX8_opensOne_8 ?_
        refine jr_bipush dX8_opensOne_11 bp_6 ?_
        refine jr_icmp_ne (tgt := 28) dX8_opensOne_13 rfl (fun c8 => ?_) (fun c8 => ?_)
        · have hf := so_f c8 hf
          exact hJ4 () hf
        · have hf := so_t c8 hf
          refine jr_aload_n dX8_opensOne_16 rfl rfl jv_rr ?_
          refine jr_iconst dX8_opensOne_17 ic_3 ?_
          refine jr_aload_n dX8_opensOne_18 rfl rfl jv_rr ?_
          refine tr_getI fl_X8_115_23 dX8_opensOne_19 ?_
          obtain ⟨S11, h9, hf⟩ := so_b hf
          refine jr_callM (st := []) lk_X8_135_23 (wX8_wrong (3 : Int32) (sg 0 4) hT sg h9) tm_k23 rfl rfl rfl (so_le rfl) (so_le rfl) dX8_opensOne_22 ?_
          refine jr_goto (tgt := 45) dX8_opensOne_25 rfl ?_
          exact hJ2 S11 hf

/- X8_notes -/
abbrev kX8_notes : jx_K := (cX8_notes, 3, RX8, 0, (Option.none : Option Jvm.ClassFile.FieldType), "notes", [])
def fX8_notes (a1 : Int32) (a2 : Int32) (sg : tm_S) : Option tm_S :=
  if (sg 0 5) = (0 : Int32) then
  (so_gd (so_in (sg 0 22) 160) fun _ =>
  so_gd (so_in (0 : Int32) 2) fun _ =>
  tm_let (tm_up sg (211 + (sg 0 22).toNatClampNeg) (0 : Int32).toNatClampNeg a1) fun S4 =>
  so_gd (so_in (S4 0 22) 160) fun _ =>
  so_gd (so_in (1 : Int32) 2) fun _ =>
  tm_let (tm_up S4 (211 + (S4 0 22).toNatClampNeg) (1 : Int32).toNatClampNeg a2) fun S7 =>
  tm_let (tm_up S7 0 22 ((S7 0 22) + (1 : Int32))) fun S8 =>
  some S8)
  else
  (some sg)
set_option maxHeartbeats 4000000 in
set_option maxRecDepth 100000 in
theorem wX8_notes {sg' : tm_S} {S0 : so_St}  (a1 : Int32) (a2 : Int32) (hT : tm_Sh S0) (sg : tm_S)  (hf : fX8_notes a1 a2 sg = some sg') : jx_Sp 0 yX8_notes (ws_ yX8_notes cX8_notes 3 (Option.none : Option Jvm.ClassFile.FieldType)) [.ref (tm_a 0), .int a1, .int a2] (tm_j S0 sg) (.inl none) (tm_j S0 sg') := by
  refine jx_of (plainFor_of_name (by decide)) (so_le rfl) ?_
  show jg_ ((tm_j S0 sg), (tm_j S0 sg'), .inl none) kX8_notes 0 [(0, .ref (tm_a 0)), (1, .int a1), (2, .int a2)] [] (tm_j S0 sg)
  unfold fX8_notes at hf
  refine jr_aload_n dX8_notes_0 rfl rfl jv_rr ?_
  refine tr_getI fl_X8_122_23 dX8_notes_1 ?_
  refine jr_if_eq (tgt := 8) dX8_notes_4 rfl (fun c1 => ?_) (fun c1 => ?_)
  · have hf := so_t c1 hf
    refine jr_aload_n dX8_notes_8 rfl rfl jv_rr ?_
    refine tr_getR (c := 210) hT (List.mem_of_getElem? (i := 13) rfl) fl_X8_55_23 dX8_notes_9 ?_
    refine jr_aload_n dX8_notes_12 rfl rfl jv_rr ?_
    refine tr_getI fl_X8_221_23 dX8_notes_13 ?_
    obtain ⟨g2, hf⟩ := so_gdE hf
    refine tr_aaload (g' := 211) hT (show tm_k 210 = 56 from rfl) rfl rfl (so_inE g2) dX8_notes_16 ?_
    refine jr_iconst dX8_notes_17 ic_0 ?_
    refine jr_iload_n dX8_notes_18 rfl rfl ?_
    obtain ⟨g3, hf⟩ := so_gdE hf
    refine tr_iastore hT (tm_rk_210 (so_inE g2)) (tm_rl_210 (so_inE g2)) (so_inE g3) dX8_notes_19 ?_
    refine tm_let_e hf (fun S4 hf => ?_)
    refine jr_aload_n dX8_notes_20 rfl rfl jv_rr ?_
    refine tr_getR (c := 210) hT (List.mem_of_getElem? (i := 13) rfl) fl_X8_55_23 dX8_notes_21 ?_
    refine jr_aload_n dX8_notes_24 rfl rfl jv_rr ?_
    refine tr_getI fl_X8_221_23 dX8_notes_25 ?_
    obtain ⟨g5, hf⟩ := so_gdE hf
    refine tr_aaload (g' := 211) hT (show tm_k 210 = 56 from rfl) rfl rfl (so_inE g5) dX8_notes_28 ?_
    refine jr_iconst dX8_notes_29 ic_1 ?_
    refine jr_iload_n dX8_notes_30 rfl rfl ?_
    obtain ⟨g6, hf⟩ := so_gdE hf
    refine tr_iastore hT (tm_rk_210 (so_inE g5)) (tm_rl_210 (so_inE g5)) (so_inE g6) dX8_notes_31 ?_
    refine tm_let_e hf (fun S7 hf => ?_)
    refine jr_aload_n dX8_notes_32 rfl rfl jv_rr ?_
    refine jr_dup dX8_notes_33 rfl ?_
    refine tr_getI fl_X8_221_23 dX8_notes_34 ?_
    refine jr_iconst dX8_notes_37 ic_1 ?_
    refine jr_iadd dX8_notes_38 ?_
    refine tr_putI fp_X8_221_23 dX8_notes_39 ?_
    refine tm_let_e hf (fun S8 hf => ?_)
    obtain rfl := so_e1 hf
    exact jr_vret rfl dX8_notes_42
  · have hf := so_f c1 hf
    obtain rfl := so_e1 hf
    exact jr_vret rfl dX8_notes_7

/- X8_takes -/
abbrev kX8_takes : jx_K := (cX8_takes, 8, RX8, 4, (Option.some Jvm.ClassFile.FieldType.boolean), "takes", [])
def fX8_takes (a1 : Int32) (a2 : Int32) (a3 : Int32) (a4 : Int32) (a5 : Int32) (a6 : Int32) (sg : tm_S) : Option (Int32 × tm_S) :=
  tm_b2 (fX8_isWord a1 a2 a3 a4 a5 a6 sg) fun r2 S3 =>
  if r2 = (0 : Int32) then
  (so_gd (so_01 r2) fun _ =>
  some (r2, S3))
  else
  ((fX8_skipWord S3).bind fun S8 =>
  so_gd (so_01 r2) fun _ =>
  some (r2, S8))
set_option maxHeartbeats 4000000 in
set_option maxRecDepth 100000 in
theorem wX8_takes {res : Int32} {sg' : tm_S} {S0 : so_St}  (a1 : Int32) (a2 : Int32) (a3 : Int32) (a4 : Int32) (a5 : Int32) (a6 : Int32) (hT : tm_Sh S0) (sg : tm_S)  (hf : fX8_takes a1 a2 a3 a4 a5 a6 sg = some (res, sg')) : jx_Sp 4 yX8_takes (ws_ yX8_takes cX8_takes 8 (Option.some Jvm.ClassFile.FieldType.boolean)) [.ref (tm_a 0), .int a1, .int a2, .int a3, .int a4, .int a5, .int a6] (tm_j S0 sg) (.inl (some (.int res))) (tm_j S0 sg') := by
  refine jx_of (plainFor_of_name (by decide)) (so_le rfl) ?_
  show jg_ ((tm_j S0 sg), (tm_j S0 sg'), .inl (some (.int res))) kX8_takes 0 [(0, .ref (tm_a 0)), (1, .int a1), (2, .int a2), (3, .int a3), (4, .int a4), (5, .int a5), (6, .int a6)] [] (tm_j S0 sg)
  unfold fX8_takes at hf
  refine jr_aload_n dX8_takes_0 rfl rfl jv_rr ?_
  refine jr_iload_n dX8_takes_1 rfl rfl ?_
  refine jr_iload_n dX8_takes_2 rfl rfl ?_
  refine jr_iload_n dX8_takes_3 rfl rfl ?_
  refine jr_iload dX8_takes_4 rfl ?_
  refine jr_iload dX8_takes_6 rfl ?_
  refine jr_iload dX8_takes_8 rfl ?_
  obtain ⟨r2, S3, h1, hf⟩ := tm_b2E hf
  refine jr_callM (st := []) lk_X8_155_23 (wX8_isWord a1 a2 a3 a4 a5 a6 hT sg h1) tm_k23 rfl rfl rfl (so_le rfl) (so_le rfl) dX8_takes_10 ?_
  refine jr_istore (lv' := [(0, .ref (tm_a 0)), (1, .int a1), (2, .int a2), (3, .int a3), (4, .int a4), (5, .int a5), (6, .int a6), (7, .int r2)]) dX8_takes_13 (so_le rfl) rfl ?_
  refine jr_iload dX8_takes_15 rfl ?_
  refine jr_if_eq (tgt := 24) dX8_takes_17 rfl (fun c4 => ?_) (fun c4 => ?_)
  · have hf := so_t c4 hf
    refine jr_iload dX8_takes_24 rfl ?_
    obtain ⟨g5, hf⟩ := so_gdE hf
    obtain ⟨rfl, rfl⟩ := so_e2 hf
    exact jr_iret rfl (so_01n (so_01E g5)) dX8_takes_26
  · have hf := so_f c4 hf
    refine jr_aload_n dX8_takes_20 rfl rfl jv_rr ?_
    obtain ⟨S8, h6, hf⟩ := so_b hf
    refine jr_callM (st := []) lk_X8_159_23 (wX8_skipWord hT S3 h6) tm_k23 rfl rfl rfl (so_le rfl) (so_le rfl) dX8_takes_21 ?_
    refine jr_iload dX8_takes_24 rfl ?_
    obtain ⟨g9, hf⟩ := so_gdE hf
    obtain ⟨rfl, rfl⟩ := so_e2 hf
    exact jr_iret rfl (so_01n (so_01E g9)) dX8_takes_26

/- X8_knownHere -/
abbrev kX8_knownHere : jx_K := (cX8_knownHere, 1, RX8, 5, (Option.some Jvm.ClassFile.FieldType.int), "knownHere", [])
def fX8_knownHere  (sg : tm_S) : Option (Int32 × tm_S) :=
  tm_b2 (fX8_takes (19 : Int32) (20 : Int32) (18 : Int32) (15 : Int32) (14 : Int32) (7 : Int32) sg) fun r2 S3 =>
  if r2 = (0 : Int32) then
  (tm_b2 (fX8_takes (6 : Int32) (5 : Int32) (12 : Int32) (20 : Int32) (0 : Int32) (0 : Int32) S3) fun r6 S7 =>
  if r6 = (0 : Int32) then
  (tm_b2 (fX8_takes (4 : Int32) (1 : Int32) (25 : Int32) (19 : Int32) (0 : Int32) (0 : Int32) S7) fun r10 S11 =>
  if r10 = (0 : Int32) then
  (tm_b2 (fX8_takes (8 : Int32) (5 : Int32) (18 : Int32) (5 : Int32) (0 : Int32) (0 : Int32) S11) fun r14 S15 =>
  if r14 = (0 : Int32) then
  (tm_b2 (fX8_takes (20 : Int32) (8 : Int32) (9 : Int32) (14 : Int32) (7 : Int32) (0 : Int32) S15) fun r18 S19 =>
  if r18 = (0 : Int32) then
  (tm_b2 (fX8_takes (14 : Int32) (5 : Int32) (24 : Int32) (20 : Int32) (0 : Int32) (0 : Int32) S19) fun r22 S23 =>
  if r22 = (0 : Int32) then
  (tm_b2 (fX8_takes (8 : Int32) (15 : Int32) (21 : Int32) (19 : Int32) (5 : Int32) (0 : Int32) S23) fun r26 S27 =>
  if r26 = (0 : Int32) then
  (tm_b2 (fX8_takes (4 : Int32) (1 : Int32) (25 : Int32) (0 : Int32) (0 : Int32) (0 : Int32) S27) fun r30 S31 =>
  if r30 = (0 : Int32) then
  (some ((-1 : Int32), S31))
  else
  (some ((7 : Int32), S31)))
  else
  (some ((6 : Int32), S27)))
  else
  (some ((5 : Int32), S23)))
  else
  (some ((4 : Int32), S19)))
  else
  (some ((3 : Int32), S15)))
  else
  (some ((2 : Int32), S11)))
  else
  (some ((1 : Int32), S7)))
  else
  (some ((0 : Int32), S3))
set_option maxHeartbeats 4000000 in
set_option maxRecDepth 100000 in
theorem wX8_knownHere {res : Int32} {sg' : tm_S} {S0 : so_St}   (hT : tm_Sh S0) (sg : tm_S)  (hf : fX8_knownHere sg = some (res, sg')) : jx_Sp 5 yX8_knownHere (ws_ yX8_knownHere cX8_knownHere 1 (Option.some Jvm.ClassFile.FieldType.int)) [.ref (tm_a 0)] (tm_j S0 sg) (.inl (some (.int res))) (tm_j S0 sg') := by
  refine jx_of (plainFor_of_name (by decide)) (so_le rfl) ?_
  show jg_ ((tm_j S0 sg), (tm_j S0 sg'), .inl (some (.int res))) kX8_knownHere 0 [(0, .ref (tm_a 0))] [] (tm_j S0 sg)
  unfold fX8_knownHere at hf
  refine jr_aload_n dX8_knownHere_0 rfl rfl jv_rr ?_
  refine jr_bipush dX8_knownHere_1 bp_19 ?_
  refine jr_bipush dX8_knownHere_3 bp_20 ?_
  refine jr_bipush dX8_knownHere_5 bp_18 ?_
  refine jr_bipush dX8_knownHere_7 bp_15 ?_
  refine jr_bipush dX8_knownHere_9 bp_14 ?_
  refine jr_bipush dX8_knownHere_11 bp_7 ?_
  obtain ⟨r2, S3, h1, hf⟩ := tm_b2E hf
  refine jr_callM (st := []) lk_X8_236_23 (wX8_takes (19 : Int32) (20 : Int32) (18 : Int32) (15 : Int32) (14 : Int32) (7 : Int32) hT sg h1) tm_k23 rfl rfl rfl (so_le rfl) (so_le rfl) dX8_knownHere_13 ?_
  refine jr_if_eq (tgt := 21) dX8_knownHere_16 rfl (fun c4 => ?_) (fun c4 => ?_)
  · have hf := so_t c4 hf
    refine jr_aload_n dX8_knownHere_21 rfl rfl jv_rr ?_
    refine jr_bipush dX8_knownHere_22 bp_6 ?_
    refine jr_iconst dX8_knownHere_24 ic_5 ?_
    refine jr_bipush dX8_knownHere_25 bp_12 ?_
    refine jr_bipush dX8_knownHere_27 bp_20 ?_
    refine jr_iconst dX8_knownHere_29 ic_0 ?_
    refine jr_iconst dX8_knownHere_30 ic_0 ?_
    obtain ⟨r6, S7, h5, hf⟩ := tm_b2E hf
    refine jr_callM (st := []) lk_X8_236_23 (wX8_takes (6 : Int32) (5 : Int32) (12 : Int32) (20 : Int32) (0 : Int32) (0 : Int32) hT S3 h5) tm_k23 rfl rfl rfl (so_le rfl) (so_le rfl) dX8_knownHere_31 ?_
    refine jr_if_eq (tgt := 39) dX8_knownHere_34 rfl (fun c8 => ?_) (fun c8 => ?_)
    · have hf := so_t c8 hf
      refine jr_aload_n dX8_knownHere_39 rfl rfl jv_rr ?_
      refine jr_iconst dX8_knownHere_40 ic_4 ?_
      refine jr_iconst dX8_knownHere_41 ic_1 ?_
      refine jr_bipush dX8_knownHere_42 bp_25 ?_
      refine jr_bipush dX8_knownHere_44 bp_19 ?_
      refine jr_iconst dX8_knownHere_46 ic_0 ?_
      refine jr_iconst dX8_knownHere_47 ic_0 ?_
      obtain ⟨r10, S11, h9, hf⟩ := tm_b2E hf
      refine jr_callM (st := []) lk_X8_236_23 (wX8_takes (4 : Int32) (1 : Int32) (25 : Int32) (19 : Int32) (0 : Int32) (0 : Int32) hT S7 h9) tm_k23 rfl rfl rfl (so_le rfl) (so_le rfl) dX8_knownHere_48 ?_
      refine jr_if_eq (tgt := 56) dX8_knownHere_51 rfl (fun c12 => ?_) (fun c12 => ?_)
      · have hf := so_t c12 hf
        refine jr_aload_n dX8_knownHere_56 rfl rfl jv_rr ?_
        refine jr_bipush dX8_knownHere_57 bp_8 ?_
        refine jr_iconst dX8_knownHere_59 ic_5 ?_
        refine jr_bipush dX8_knownHere_60 bp_18 ?_
        refine jr_iconst dX8_knownHere_62 ic_5 ?_
        refine jr_iconst dX8_knownHere_63 ic_0 ?_
        refine jr_iconst dX8_knownHere_64 ic_0 ?_
        obtain ⟨r14, S15, h13, hf⟩ := tm_b2E hf
        refine jr_callM (st := []) lk_X8_236_23 (wX8_takes (8 : Int32) (5 : Int32) (18 : Int32) (5 : Int32) (0 : Int32) (0 : Int32) hT S11 h13) tm_k23 rfl rfl rfl (so_le rfl) (so_le rfl) dX8_knownHere_65 ?_
        refine jr_if_eq (tgt := 73) dX8_knownHere_68 rfl (fun c16 => ?_) (fun c16 => ?_)
        · have hf := so_t c16 hf
          refine jr_aload_n dX8_knownHere_73 rfl rfl jv_rr ?_
          refine jr_bipush dX8_knownHere_74 bp_20 ?_
          refine jr_bipush dX8_knownHere_76 bp_8 ?_
          refine jr_bipush dX8_knownHere_78 bp_9 ?_
          refine jr_bipush dX8_knownHere_80 bp_14 ?_
          refine jr_bipush dX8_knownHere_82 bp_7 ?_
          refine jr_iconst dX8_knownHere_84 ic_0 ?_
          obtain ⟨r18, S19, h17, hf⟩ := tm_b2E hf
          refine jr_callM (st := []) lk_X8_236_23 (wX8_takes (20 : Int32) (8 : Int32) (9 : Int32) (14 : Int32) (7 : Int32) (0 : Int32) hT S15 h17) tm_k23 rfl rfl rfl (so_le rfl) (so_le rfl) dX8_knownHere_85 ?_
          refine jr_if_eq (tgt := 93) dX8_knownHere_88 rfl (fun c20 => ?_) (fun c20 => ?_)
          · have hf := so_t c20 hf
            refine jr_aload_n dX8_knownHere_93 rfl rfl jv_rr ?_
            refine jr_bipush dX8_knownHere_94 bp_14 ?_
            refine jr_iconst dX8_knownHere_96 ic_5 ?_
            refine jr_bipush dX8_knownHere_97 bp_24 ?_
            refine jr_bipush dX8_knownHere_99 bp_20 ?_
            refine jr_iconst dX8_knownHere_101 ic_0 ?_
            refine jr_iconst dX8_knownHere_102 ic_0 ?_
            obtain ⟨r22, S23, h21, hf⟩ := tm_b2E hf
            refine jr_callM (st := []) lk_X8_236_23 (wX8_takes (14 : Int32) (5 : Int32) (24 : Int32) (20 : Int32) (0 : Int32) (0 : Int32) hT S19 h21) tm_k23 rfl rfl rfl (so_le rfl) (so_le rfl) dX8_knownHere_103 ?_
            refine jr_if_eq (tgt := 111) dX8_knownHere_106 rfl (fun c24 => ?_) (fun c24 => ?_)
            · have hf := so_t c24 hf
              refine jr_aload_n dX8_knownHere_111 rfl rfl jv_rr ?_
              refine jr_bipush dX8_knownHere_112 bp_8 ?_
              refine jr_bipush dX8_knownHere_114 bp_15 ?_
              refine jr_bipush dX8_knownHere_116 bp_21 ?_
              refine jr_bipush dX8_knownHere_118 bp_19 ?_
              refine jr_iconst dX8_knownHere_120 ic_5 ?_
              refine jr_iconst dX8_knownHere_121 ic_0 ?_
              obtain ⟨r26, S27, h25, hf⟩ := tm_b2E hf
              refine jr_callM (st := []) lk_X8_236_23 (wX8_takes (8 : Int32) (15 : Int32) (21 : Int32) (19 : Int32) (5 : Int32) (0 : Int32) hT S23 h25) tm_k23 rfl rfl rfl (so_le rfl) (so_le rfl) dX8_knownHere_122 ?_
              refine jr_if_eq (tgt := 131) dX8_knownHere_125 rfl (fun c28 => ?_) (fun c28 => ?_)
              · have hf := so_t c28 hf
                refine jr_aload_n dX8_knownHere_131 rfl rfl jv_rr ?_
                refine jr_iconst dX8_knownHere_132 ic_4 ?_
                refine jr_iconst dX8_knownHere_133 ic_1 ?_
                refine jr_bipush dX8_knownHere_134 bp_25 ?_
                refine jr_iconst dX8_knownHere_136 ic_0 ?_
                refine jr_iconst dX8_knownHere_137 ic_0 ?_
                refine jr_iconst dX8_knownHere_138 ic_0 ?_
                obtain ⟨r30, S31, h29, hf⟩ := tm_b2E hf
                refine jr_callM (st := []) lk_X8_236_23 (wX8_takes (4 : Int32) (1 : Int32) (25 : Int32) (0 : Int32) (0 : Int32) (0 : Int32) hT S27 h29) tm_k23 rfl rfl rfl (so_le rfl) (so_le rfl) dX8_knownHere_139 ?_
                refine jr_if_eq (tgt := 150) dX8_knownHere_142 rfl (fun c32 => ?_) (fun c32 => ?_)
                · have hf := so_t c32 hf
                  refine jr_iconst dX8_knownHere_150 ic_m1 ?_
                  obtain ⟨rfl, rfl⟩ := so_e2 hf
                  exact jr_iret rfl rfl dX8_knownHere_151
                · have hf := so_f c32 hf
                  refine jr_bipush dX8_knownHere_145 bp_7 ?_
                  refine jr_goto (tgt := 151) dX8_knownHere_147 rfl ?_
                  obtain ⟨rfl, rfl⟩ := so_e2 hf
                  exact jr_iret rfl rfl dX8_knownHere_151
              · have hf := so_f c28 hf
                refine jr_bipush dX8_knownHere_128 bp_6 ?_
                obtain ⟨rfl, rfl⟩ := so_e2 hf
                exact jr_iret rfl rfl dX8_knownHere_130
            · have hf := so_f c24 hf
              refine jr_iconst dX8_knownHere_109 ic_5 ?_
              obtain ⟨rfl, rfl⟩ := so_e2 hf
              exact jr_iret rfl rfl dX8_knownHere_110
          · have hf := so_f c20 hf
            refine jr_iconst dX8_knownHere_91 ic_4 ?_
            obtain ⟨rfl, rfl⟩ := so_e2 hf
            exact jr_iret rfl rfl dX8_knownHere_92
        · have hf := so_f c16 hf
          refine jr_iconst dX8_knownHere_71 ic_3 ?_
          obtain ⟨rfl, rfl⟩ := so_e2 hf
          exact jr_iret rfl rfl dX8_knownHere_72
      · have hf := so_f c12 hf
        refine jr_iconst dX8_knownHere_54 ic_2 ?_
        obtain ⟨rfl, rfl⟩ := so_e2 hf
        exact jr_iret rfl rfl dX8_knownHere_55
    · have hf := so_f c8 hf
      refine jr_iconst dX8_knownHere_37 ic_1 ?_
      obtain ⟨rfl, rfl⟩ := so_e2 hf
      exact jr_iret rfl rfl dX8_knownHere_38
  · have hf := so_f c4 hf
    refine jr_iconst dX8_knownHere_19 ic_0 ?_
    obtain ⟨rfl, rfl⟩ := so_e2 hf
    exact jr_iret rfl rfl dX8_knownHere_20

/- X8_one -/
abbrev kX8_one (d0 : Nat) : jx_K := (cX8_one, 3, RX8, d0 + 6, (Option.none : Option Jvm.ClassFile.FieldType), "one", [])
def fX8_one (rec : tm_S → Option tm_S)  (sg : tm_S) : Option tm_S :=
  if (sg 0 5) = (0 : Int32) then
  ((fX8_blanks sg).bind fun S4 =>
  tm_b2 (fX8_isWord (12 : Int32) (5 : Int32) (1 : Int32) (19 : Int32) (20 : Int32) (0 : Int32) S4) fun r6 S7 =>
  so_j (κ := Int32 → tm_S → Option tm_S) (ρ := Option tm_S) (fun (v8 : Int32) (S9 : tm_S) =>
  if v8 = (-1 : Int32) then
  ((fX8_byteAt (S9 0 4) S9).bind fun r13 =>
  if r13 = (40 : Int32) then
  (tm_b2 (fX8_opensOne S9) fun r29 S30 =>
  if r29 = (0 : Int32) then
  (some S30)
  else
  (tm_let (tm_up S30 0 4 ((S30 0 4) + (1 : Int32))) fun S32 =>
  (rec S32).bind fun S35 =>
  (fX8_sign (41 : Int32) S35).bind fun S38 =>
  tm_let (tm_up S38 0 8 ((S38 0 8) - (1 : Int32))) fun S39 =>
  some S39))
  else
  (tm_b2 (fX8_knownHere S9) fun r16 S17 =>
  if r16 = (-1 : Int32) then
  (tm_b2 (fX8_number (0 : Int32) (999 : Int32) S17) fun r20 S21 =>
  (fX8_notes (0 : Int32) r20 S21).bind fun S24 =>
  some S24)
  else
  ((fX8_notes (1 : Int32) r16 S17).bind fun S27 =>
  some S27)))
  else
  (tm_b2 (fX8_opensOne S9) fun r41 S42 =>
  if r41 = (0 : Int32) then
  (some S42)
  else
  ((fX8_skipWord S42).bind fun S46 =>
  (fX8_sign (91 : Int32) S46).bind fun S49 =>
  (rec S49).bind fun S52 =>
  (fX8_sign (44 : Int32) S52).bind fun S55 =>
  (rec S55).bind fun S58 =>
  (fX8_sign (93 : Int32) S58).bind fun S61 =>
  (fX8_notes v8 (0 : Int32) S61).bind fun S64 =>
  tm_let (tm_up S64 0 8 ((S64 0 8) - (1 : Int32))) fun S65 =>
  some S65)))
  (fun J10 =>
  if r6 = (0 : Int32) then
  (tm_b2 (fX8_isWord (13 : Int32) (15 : Int32) (19 : Int32) (20 : Int32) (0 : Int32) (0 : Int32) S7) fun r68 S69 =>
  if r68 = (0 : Int32) then
  (J10 (-1 : Int32) S69)
  else
  (J10 (8 : Int32) S69))
  else
  (J10 (7 : Int32) S7)))
  else
  (some sg)
set_option maxHeartbeats 4000000 in
set_option maxRecDepth 100000 in
theorem wX8_one {d0 : Nat} {sg' : tm_S} {S0 : so_St} {rec : tm_S → Option tm_S} (hrec : ∀ {S0 : so_St} (hT : tm_Sh S0) (sg : tm_S), ∀ {sg' : tm_S}, rec sg = some sg' → jx_Sp d0 yX8_sum (ws_ yX8_sum cX8_sum 2 (Option.none : Option Jvm.ClassFile.FieldType)) [.ref (tm_a 0)] (tm_j S0 sg) (.inl none) (tm_j S0 sg'))  (hT : tm_Sh S0) (sg : tm_S)  (hf : fX8_one rec sg = some sg') : jx_Sp (d0 + 6) yX8_one (ws_ yX8_one cX8_one 3 (Option.none : Option Jvm.ClassFile.FieldType)) [.ref (tm_a 0)] (tm_j S0 sg) (.inl none) (tm_j S0 sg') := by
  refine jx_of (plainFor_of_name (by decide)) (so_le rfl) ?_
  show jg_ ((tm_j S0 sg), (tm_j S0 sg'), .inl none) (kX8_one d0) 0 [(0, .ref (tm_a 0))] [] (tm_j S0 sg)
  unfold fX8_one at hf
  refine jr_aload_n dX8_one_0 rfl rfl jv_rr ?_
  refine tr_getI fl_X8_122_23 dX8_one_1 ?_
  refine jr_if_eq (tgt := 8) dX8_one_4 rfl (fun c1 => ?_) (fun c1 => ?_)
  · have hf := so_t c1 hf
    refine jr_aload_n dX8_one_8 rfl rfl jv_rr ?_
    obtain ⟨S4, h2, hf⟩ := so_b hf
    refine jr_callM (st := []) lk_X8_128_23 (wX8_blanks hT sg h2) tm_k23 rfl rfl rfl (so_le rfl) (show 1 + 1 ≤ d0 + 6 by omega) dX8_one_9 ?_
    refine jr_aload_n dX8_one_12 rfl rfl jv_rr ?_
    refine jr_bipush dX8_one_13 bp_12 ?_
    refine jr_iconst dX8_one_15 ic_5 ?_
    refine jr_iconst dX8_one_16 ic_1 ?_
    refine jr_bipush dX8_one_17 bp_19 ?_
    refine jr_bipush dX8_one_19 bp_20 ?_
    refine jr_iconst dX8_one_21 ic_0 ?_
    obtain ⟨r6, S7, h5, hf⟩ := tm_b2E hf
    refine jr_callM (st := []) lk_X8_155_23 (wX8_isWord (12 : Int32) (5 : Int32) (1 : Int32) (19 : Int32) (20 : Int32) (0 : Int32) hT S4 h5) tm_k23 rfl rfl rfl (so_le rfl) (show 3 + 1 ≤ d0 + 6 by omega) dX8_one_22 ?_
    refine so_jE hf (fun J => ∀ (v8 : Int32) (S9 : tm_S), J v8 S9 = some sg' → jg_ (tm_j S0 sg, tm_j S0 sg', .inl none) (kX8_one d0) 56 [(0, .ref (tm_a 0))] [.int v8] (tm_j S0 S9)) (fun v8 S9 hf => ?_) (fun J10 hJ10 hf => ?_)
    · refine jr_istore_n (lv' := [(0, .ref (tm_a 0)), (1, .int v8)]) dX8_one_56 rfl (so_le rfl) rfl ?_
      refine jr_iload_n dX8_one_57 rfl rfl ?_
      refine jr_iconst dX8_one_58 ic_m1 ?_
      refine jr_icmp_eq (tgt := 117) dX8_one_59 rfl (fun c11 => ?_) (fun c11 => ?_)
      · have hf := so_t c11 hf
        refine jr_aload_n dX8_one_117 rfl rfl jv_rr ?_
        refine jr_aload_n dX8_one_118 rfl rfl jv_rr ?_
        refine tr_getI fl_X8_115_23 dX8_one_119 ?_
        obtain ⟨r13, h12, hf⟩ := so_b hf
        refine jr_callM (st := []) lk_X8_118_23 (wX8_byteAt (S9 0 4) hT S9 h12) tm_k23 rfl rfl rfl (so_le rfl) (show 0 + 1 ≤ d0 + 6 by omega) dX8_one_122 ?_
        refine jr_bipush dX8_one_125 bp_40 ?_
        refine jr_icmp_ne (tgt := 169) dX8_one_127 rfl (fun c14 => ?_) (fun c14 => ?_)
        · have hf := so_f c14 hf
          refine jr_aload_n dX8_one_169 rfl rfl jv_rr ?_
          obtain ⟨r16, S17, h15, hf⟩ := tm_b2E hf
          refine jr_callM (st := []) lk_X8_246_23 (wX8_knownHere hT S9 h15) tm_k23 rfl rfl rfl (so_le rfl) (show 5 + 1 ≤ d0 + 6 by omega) dX8_one_170 ?_
          refine jr_istore_n (lv' := [(0, .ref (tm_a 0)), (1, .int v8), (2, .int r16)]) dX8_one_173 rfl (so_le rfl) rfl ?_
          refine jr_iload_n dX8_one_174 rfl rfl ?_
          refine jr_iconst dX8_one_175 ic_m1 ?_
          refine jr_icmp_eq (tgt := 188) dX8_one_176 rfl (fun c18 => ?_) (fun c18 => ?_)
          · have hf := so_t c18 hf
            refine jr_aload_n dX8_one_188 rfl rfl jv_rr ?_
            refine jr_iconst dX8_one_189 ic_0 ?_
            refine jr_aload_n dX8_one_190 rfl rfl jv_rr ?_
            refine jr_iconst dX8_one_191 ic_0 ?_
            refine jr_sipush dX8_one_192 sp_999 ?_
            obtain ⟨r20, S21, h19, hf⟩ := tm_b2E hf
            refine jr_callM (st := [.int (0 : Int32), .ref (tm_a 0)]) lk_X8_168_23 (wX8_number (0 : Int32) (999 : Int32) hT S17 h19) tm_k23 rfl rfl rfl (so_le rfl) (show 2 + 1 ≤ d0 + 6 by omega) dX8_one_195 ?_
            obtain ⟨S24, h22, hf⟩ := so_b hf
            refine jr_callM (st := []) lk_X8_230_23 (wX8_notes (0 : Int32) r20 hT S21 h22) tm_k23 rfl rfl rfl (so_le rfl) (show 0 + 1 ≤ d0 + 6 by omega) dX8_one_198 ?_
            obtain rfl := so_e1 hf
            exact jr_vret rfl dX8_one_201
          · have hf := so_f c18 hf
            refine jr_aload_n dX8_one_179 rfl rfl jv_rr ?_
            refine jr_iconst dX8_one_180 ic_1 ?_
            refine jr_iload_n dX8_one_181 rfl rfl ?_
            obtain ⟨S27, h25, hf⟩ := so_b hf
            refine jr_callM (st := []) lk_X8_230_23 (wX8_notes (1 : Int32) r16 hT S17 h25) tm_k23 rfl rfl rfl (so_le rfl) (show 0 + 1 ≤ d0 + 6 by omega) dX8_one_182 ?_
            refine jr_goto (tgt := 201) dX8_one_185 rfl ?_
            obtain rfl := so_e1 hf
            exact jr_vret rfl dX8_one_201
        · have hf := so_t c14 hf
          refine jr_aload_n dX8_one_130 rfl rfl jv_rr ?_
          obtain ⟨r29, S30, h28, hf⟩ := tm_b2E hf
          refine jr_callM (st := []) lk_X8_239_23 (wX8_opensOne hT S9 h28) tm_k23 rfl rfl rfl (so_le rfl) (show 1 + 1 ≤ d0 + 6 by omega) dX8_one_131 ?_
          refine jr_if_ne (tgt := 138) dX8_one_134 rfl (fun c31 => ?_) (fun c31 => ?_)
          · have hf := so_f c31 hf
            refine jr_aload_n dX8_one_138 rfl rfl jv_rr ?_
            refine jr_dup dX8_one_139 rfl ?_
            refine tr_getI fl_X8_115_23 dX8_one_140 ?_
            refine jr_iconst dX8_one_143 ic_1 ?_
            refine jr_iadd dX8_one_144 ?_
            refine tr_putI fp_X8_115_23 dX8_one_145 ?_
            refine tm_let_e hf (fun S32 hf => ?_)
            refine jr_aload_n dX8_one_148 rfl rfl jv_rr ?_
            obtain ⟨S35, h33, hf⟩ := so_b hf
            refine jr_callM (st := []) lk_X8_243_23 (hrec hT S32 h33) tm_k23 rfl rfl rfl (so_le rfl) (show d0 + 0 + 1 ≤ d0 + 6 by omega) dX8_one_149 ?_
            refine jr_aload_n dX8_one_152 rfl rfl jv_rr ?_
            refine jr_bipush dX8_one_153 bp_41 ?_
            obtain ⟨S38, h36, hf⟩ := so_b hf
            refine jr_callM (st := []) lk_X8_185_23 (wX8_sign (41 : Int32) hT S35 h36) tm_k23 rfl rfl rfl (so_le rfl) (show 2 + 1 ≤ d0 + 6 by omega) dX8_one_155 ?_
            refine jr_aload_n dX8_one_158 rfl rfl jv_rr ?_
            refine jr_dup dX8_one_159 rfl ?_
            refine tr_getI fl_X8_165_23 dX8_one_160 ?_
            refine jr_iconst dX8_one_163 ic_1 ?_
            refine jr_isub dX8_one_164 ?_
            refine tr_putI fp_X8_165_23 dX8_one_165 ?_
            refine tm_let_e hf (fun S39 hf => ?_)
            obtain rfl := so_e1 hf
            exact jr_vret rfl dX8_one_168
          · have hf := so_t c31 hf
            obtain rfl := so_e1 hf
            exact jr_vret rfl dX8_one_137
      · have hf := so_f c11 hf
        refine jr_aload_n dX8_one_62 rfl rfl jv_rr ?_
        obtain ⟨r41, S42, h40, hf⟩ := tm_b2E hf
        refine jr_callM (st := []) lk_X8_239_23 (wX8_opensOne hT S9 h40) tm_k23 rfl rfl rfl (so_le rfl) (show 1 + 1 ≤ d0 + 6 by omega) dX8_one_63 ?_
        refine jr_if_ne (tgt := 70) dX8_one_66 rfl (fun c43 => ?_) (fun c43 => ?_)
        · have hf := so_f c43 hf
          refine jr_aload_n dX8_one_70 rfl rfl jv_rr ?_
          obtain ⟨S46, h44, hf⟩ := so_b hf
          refine jr_callM (st := []) lk_X8_159_23 (wX8_skipWord hT S42 h44) tm_k23 rfl rfl rfl (so_le rfl) (show 1 + 1 ≤ d0 + 6 by omega) dX8_one_71 ?_
          refine jr_aload_n dX8_one_74 rfl rfl jv_rr ?_
          refine jr_bipush dX8_one_75 bp_91 ?_
          obtain ⟨S49, h47, hf⟩ := so_b hf
          refine jr_callM (st := []) lk_X8_185_23 (wX8_sign (91 : Int32) hT S46 h47) tm_k23 rfl rfl rfl (so_le rfl) (show 2 + 1 ≤ d0 + 6 by omega) dX8_one_77 ?_
          refine jr_aload_n dX8_one_80 rfl rfl jv_rr ?_
          obtain ⟨S52, h50, hf⟩ := so_b hf
          refine jr_callM (st := []) lk_X8_243_23 (hrec hT S49 h50) tm_k23 rfl rfl rfl (so_le rfl) (show d0 + 0 + 1 ≤ d0 + 6 by omega) dX8_one_81 ?_
          refine jr_aload_n dX8_one_84 rfl rfl jv_rr ?_
          refine jr_bipush dX8_one_85 bp_44 ?_
          obtain ⟨S55, h53, hf⟩ := so_b hf
          refine jr_callM (st := []) lk_X8_185_23 (wX8_sign (44 : Int32) hT S52 h53) tm_k23 rfl rfl rfl (so_le rfl) (show 2 + 1 ≤ d0 + 6 by omega) dX8_one_87 ?_
          refine jr_aload_n dX8_one_90 rfl rfl jv_rr ?_
          obtain ⟨S58, h56, hf⟩ := so_b hf
          refine jr_callM (st := []) lk_X8_243_23 (hrec hT S55 h56) tm_k23 rfl rfl rfl (so_le rfl) (show d0 + 0 + 1 ≤ d0 + 6 by omega) dX8_one_91 ?_
          refine jr_aload_n dX8_one_94 rfl rfl jv_rr ?_
          refine jr_bipush dX8_one_95 bp_93 ?_
          obtain ⟨S61, h59, hf⟩ := so_b hf
          refine jr_callM (st := []) lk_X8_185_23 (wX8_sign (93 : Int32) hT S58 h59) tm_k23 rfl rfl rfl (so_le rfl) (show 2 + 1 ≤ d0 + 6 by omega) dX8_one_97 ?_
          refine jr_aload_n dX8_one_100 rfl rfl jv_rr ?_
          refine jr_iload_n dX8_one_101 rfl rfl ?_
          refine jr_iconst dX8_one_102 ic_0 ?_
          obtain ⟨S64, h62, hf⟩ := so_b hf
          refine jr_callM (st := []) lk_X8_230_23 (wX8_notes v8 (0 : Int32) hT S61 h62) tm_k23 rfl rfl rfl (so_le rfl) (show 0 + 1 ≤ d0 + 6 by omega) dX8_one_103 ?_
          refine jr_aload_n dX8_one_106 rfl rfl jv_rr ?_
          refine jr_dup dX8_one_107 rfl ?_
          refine tr_getI fl_X8_165_23 dX8_one_108 ?_
          refine jr_iconst dX8_one_111 ic_1 ?_
          refine jr_isub dX8_one_112 ?_
          refine tr_putI fp_X8_165_23 dX8_one_113 ?_
          refine tm_let_e hf (fun S65 hf => ?_)
          obtain rfl := so_e1 hf
          exact jr_vret rfl dX8_one_116
        · have hf := so_t c43 hf
          obtain rfl := so_e1 hf
          exact jr_vret rfl dX8_one_69
    · refine jr_if_eq (tgt := 33) dX8_one_25 rfl (fun c66 => ?_) (fun c66 => ?_)
      · have hf := so_t c66 hf
        refine jr_aload_n dX8_one_33 rfl rfl jv_rr ?_
        refine jr_bipush dX8_one_34 bp_13 ?_
        refine jr_bipush dX8_one_36 bp_15 ?_
        refine jr_bipush dX8_one_38 bp_19 ?_
        refine jr_bipush dX8_one_40 bp_20 ?_
        refine jr_iconst dX8_one_42 ic_0 ?_
        refine jr_iconst dX8_one_43 ic_0 ?_
        obtain ⟨r68, S69, h67, hf⟩ := tm_b2E hf
        refine jr_callM (st := []) lk_X8_155_23 (wX8_isWord (13 : Int32) (15 : Int32) (19 : Int32) (20 : Int32) (0 : Int32) (0 : Int32) hT S7 h67) tm_k23 rfl rfl rfl (so_le rfl) (show 3 + 1 ≤ d0 + 6 by omega) dX8_one_44 ?_
        refine jr_if_eq (tgt := 55) dX8_one_47 rfl (fun c70 => ?_) (fun c70 => ?_)
        · have hf := so_t c70 hf
          refine jr_iconst dX8_one_55 ic_m1 ?_
          exact hJ10 (-1 : Int32) S69 hf
        · have hf := so_f c70 hf
          refine jr_bipush dX8_one_50 bp_8 ?_
          refine jr_goto (tgt := 56) dX8_one_52 rfl ?_
          exact hJ10 (8 : Int32) S69 hf
      · have hf := so_f c66 hf
        refine jr_bipush dX8_one_28 bp_7 ?_
        refine jr_goto (tgt := 56) dX8_one_30 rfl ?_
        exact hJ10 (7 : Int32) S7 hf
  · have hf := so_f c1 hf
    obtain rfl := so_e1 hf
    exact jr_vret rfl dX8_one_7
