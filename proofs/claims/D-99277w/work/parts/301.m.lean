/-! printed: functions and walks -/
set_option maxRecDepth 100000
set_option linter.unusedVariables false
/- J9_isLatin1 -/
abbrev kJ9_isLatin1 : jx_K := (cJ9_isLatin1, 1, RJ9, 0, (Option.some Jvm.ClassFile.FieldType.boolean), "isLatin1", [])
def fJ9_isLatin1 (a0 : Nat) (S : so_St) : Option Int32 :=
  if (1 : Int32) = (0 : Int32) then
  (some (0 : Int32))
  else
  (if (so_I S a0 1) = (0 : Int32) then
  (some (1 : Int32))
  else
  (some (0 : Int32)))
set_option maxHeartbeats 4000000 in
set_option maxRecDepth 100000 in
theorem wJ9_isLatin1 {res : Int32}  (a0 : Nat)  (S : so_St) (k_a0 : a0 % 64 ∈ [26]) (hf : fJ9_isLatin1 a0 S = some res) : jx_Sp 0 yJ9_isLatin1 (ws_ yJ9_isLatin1 cJ9_isLatin1 1 (Option.some Jvm.ClassFile.FieldType.boolean)) [.ref a0] S (.inl (some (.int res))) S := by
  refine jx_of (plainFor_of_name (by decide)) (so_le rfl) ?_
  show jg_ (S, S, .inl (some (.int res))) kJ9_isLatin1 0 [(0, .ref a0)] [] S
  unfold fJ9_isLatin1 at hf
  refine jr_gsC q339 dJ9_isLatin1_0 ?_
  refine jr_if_eq (tgt := 17) dJ9_isLatin1_3 rfl (fun c1 => ?_) (fun c1 => ?_)
  · have hf := so_t c1 hf
    refine jr_iconst dJ9_isLatin1_17 ic_0 ?_
    obtain rfl := so_e1 hf
    exact jr_iret rfl rfl dJ9_isLatin1_18
  · have hf := so_f c1 hf
    refine jr_aload_n dJ9_isLatin1_6 rfl rfl jv_rr ?_
    refine jr_getSc fl_J9_15_26 q481 (so_m1 k_a0) dJ9_isLatin1_7 ?_
    refine jr_if_ne (tgt := 17) dJ9_isLatin1_10 rfl (fun c2 => ?_) (fun c2 => ?_)
    · have hf := so_f c2 hf
      refine jr_iconst dJ9_isLatin1_17 ic_0 ?_
      obtain rfl := so_e1 hf
      exact jr_iret rfl rfl dJ9_isLatin1_18
    · have hf := so_t c2 hf
      refine jr_iconst dJ9_isLatin1_13 ic_1 ?_
      refine jr_goto (tgt := 18) dJ9_isLatin1_14 rfl ?_
      obtain rfl := so_e1 hf
      exact jr_iret rfl rfl dJ9_isLatin1_18

/- J11_signedHashCode -/
abbrev kJ11_signedHashCode : jx_K := (cJ11_signedHashCode, 6, RJ11, 0, (Option.some Jvm.ClassFile.FieldType.int), "signedHashCode", [])
def LJ11_signedHashCode_8 (f1 : Nat) (f4 : Int32) (S : so_St) : Nat → Int32 → Int32 → Option Int32
  | 0, _, _ => none
  | n + 1, v1, v2 =>
    if f4 ≤ v2 then
    (some v1)
    else
    (so_gd (so_in v2 (so_l S f1)) fun _ =>
    LJ11_signedHashCode_8 f1 f4 S n (((31 : Int32) * v1) + ((so_I S f1 v2.toNatClampNeg) &&& (255 : Int32))) (v2 + (1 : Int32)))
set_option maxHeartbeats 4000000 in
set_option maxRecDepth 100000 in
theorem wJ11_signedHashCode_8 {res : Int32}   (f1 : Nat) (f4 : Int32)  (S : so_St) (k_f1 : f1 % 64 ∈ [51]) : ∀ (n : Nat) (v1 : Int32) (v2 : Int32), LJ11_signedHashCode_8 f1 f4 S n v1 v2 = some res → jg_ (S, S, .inl (some (.int res))) kJ11_signedHashCode 8 [(0, .int v1), (1, .ref f1), (4, .int f4), (5, .int v2)] [] S := by
  intro n
  induction n with
  | zero =>
    intro v1 v2 hf
    exact so_no hf
  | succ n ih =>
    intro v1 v2 hf
    rw [LJ11_signedHashCode_8] at hf
    refine jr_iload dJ11_signedHashCode_8 rfl ?_
    refine jr_iload dJ11_signedHashCode_10 rfl ?_
    refine jr_icmp_ge (tgt := 35) dJ11_signedHashCode_12 rfl (fun c3 => ?_) (fun c3 => ?_)
    · have hf := so_t c3 hf
      refine jr_iload_n dJ11_signedHashCode_35 rfl rfl ?_
      obtain rfl := so_e1 hf
      exact jr_iret rfl rfl dJ11_signedHashCode_36
    · have hf := so_f c3 hf
      refine jr_bipush dJ11_signedHashCode_15 bp_31 ?_
      refine jr_iload_n dJ11_signedHashCode_17 rfl rfl ?_
      refine jr_imul dJ11_signedHashCode_18 ?_
      refine jr_aload_n dJ11_signedHashCode_19 rfl rfl jv_rr ?_
      refine jr_iload dJ11_signedHashCode_20 rfl ?_
      obtain ⟨g4, hf⟩ := so_gdE hf
      refine jr_baload (so_m1 k_f1) (so_inE g4) dJ11_signedHashCode_22 ?_
      refine jr_sipush dJ11_signedHashCode_23 sp_255 ?_
      refine jr_iand dJ11_signedHashCode_26 ?_
      refine jr_iadd dJ11_signedHashCode_27 ?_
      refine jr_istore_n (lv' := [(0, .int (((31 : Int32) * v1) + ((so_I S f1 v2.toNatClampNeg) &&& (255 : Int32)))), (1, .ref f1), (4, .int f4), (5, .int v2)]) dJ11_signedHashCode_28 rfl (so_le rfl) rfl ?_
      refine jr_iinc (v := v2 + (1 : Int32)) (lv' := [(0, .int (((31 : Int32) * v1) + ((so_I S f1 v2.toNatClampNeg) &&& (255 : Int32)))), (1, .ref f1), (4, .int f4), (5, .int (v2 + (1 : Int32)))]) dJ11_signedHashCode_29 rfl rfl (so_le rfl) rfl ?_
      refine jr_goto (tgt := 8) dJ11_signedHashCode_32 rfl ?_
      exact ih (((31 : Int32) * v1) + ((so_I S f1 v2.toNatClampNeg) &&& (255 : Int32))) (v2 + (1 : Int32)) hf
def fJ11_signedHashCode (a0 : Int32) (a1 : Nat) (a2 : Int32) (a3 : Int32) (S : so_St) : Option Int32 :=
  LJ11_signedHashCode_8 a1 (a2 + a3) S so_N a0 a2
set_option maxHeartbeats 4000000 in
set_option maxRecDepth 100000 in
theorem wJ11_signedHashCode {res : Int32}  (a0 : Int32) (a1 : Nat) (a2 : Int32) (a3 : Int32)  (S : so_St) (k_a1 : a1 % 64 ∈ [51]) (hf : fJ11_signedHashCode a0 a1 a2 a3 S = some res) : jx_Sp 0 yJ11_signedHashCode (ws_ yJ11_signedHashCode cJ11_signedHashCode 6 (Option.some Jvm.ClassFile.FieldType.int)) [.int a0, .ref a1, .int a2, .int a3] S (.inl (some (.int res))) S := by
  refine jx_of (plainFor_of_name (by decide)) (so_le rfl) ?_
  show jg_ (S, S, .inl (some (.int res))) kJ11_signedHashCode 0 [(0, .int a0), (1, .ref a1), (2, .int a2), (3, .int a3)] [] S
  unfold fJ11_signedHashCode at hf
  refine jr_iload_n dJ11_signedHashCode_0 rfl rfl ?_
  refine jr_iload_n dJ11_signedHashCode_1 rfl rfl ?_
  refine jr_iadd dJ11_signedHashCode_2 ?_
  refine jr_istore (lv' := [(0, .int a0), (1, .ref a1), (2, .int a2), (3, .int a3), (4, .int (a2 + a3))]) dJ11_signedHashCode_3 (so_le rfl) rfl ?_
  refine jr_iload_n dJ11_signedHashCode_5 rfl rfl ?_
  refine jr_istore (lv' := [(0, .int a0), (1, .ref a1), (2, .int a2), (3, .int a3), (4, .int (a2 + a3)), (5, .int a2)]) dJ11_signedHashCode_6 (so_le rfl) rfl ?_
  refine jr_sub [0, 1, 4, 5] rfl ?_
  refine wJ11_signedHashCode_8 a1 (a2 + a3) S k_a1 so_N a0 a2 hf

/- J11_vectorizedHashCode -/
abbrev kJ11_vectorizedHashCode : jx_K := (cJ11_vectorizedHashCode, 5, RJ11, 1, (Option.some Jvm.ClassFile.FieldType.int), "vectorizedHashCode", [])
def fJ11_vectorizedHashCode (a0 : Nat) (a1 : Int32) (a2 : Int32) (a3 : Int32) (a4 : Int32) (S : so_St) : Option Int32 :=
  if a4 = (4 : Int32) then
  (so_gd (so_big a0) fun _ =>
  (fJ11_signedHashCode a3 a0 a1 a2 S).bind fun r4 =>
  some r4)
  else
  if a4 = (5 : Int32) then
  (none)
  else
  if a4 = (6 : Int32) then
  (none)
  else
  if a4 = (7 : Int32) then
  (none)
  else
  if a4 = (8 : Int32) then
  (so_gd (so_big a0) fun _ =>
  none)
  else
  if a4 = (9 : Int32) then
  (none)
  else
  if a4 = (10 : Int32) then
  (none)
  else
  (none)
set_option maxHeartbeats 4000000 in
set_option maxRecDepth 100000 in
theorem wJ11_vectorizedHashCode {res : Int32}  (a0 : Nat) (a1 : Int32) (a2 : Int32) (a3 : Int32) (a4 : Int32)  (S : so_St) (k_a0 : a0 % 64 ∈ [51]) (hf : fJ11_vectorizedHashCode a0 a1 a2 a3 a4 S = some res) : jx_Sp 1 yJ11_vectorizedHashCode (ws_ yJ11_vectorizedHashCode cJ11_vectorizedHashCode 5 (Option.some Jvm.ClassFile.FieldType.int)) [.ref a0, .int a1, .int a2, .int a3, .int a4] S (.inl (some (.int res))) S := by
  refine jx_of (plainFor_of_name (by decide)) (so_le rfl) ?_
  show jg_ (S, S, .inl (some (.int res))) kJ11_vectorizedHashCode 0 [(0, .ref a0), (1, .int a1), (2, .int a2), (3, .int a3), (4, .int a4)] [] S
  unfold fJ11_vectorizedHashCode at hf
  refine jr_iload dJ11_vectorizedHashCode_0 rfl ?_
  by_cases c1 : a4 = (4 : Int32)
  · have hf := so_t c1 hf
    refine jr_tsIn (tgt := 44) (4 : Int32) c1 dJ11_vectorizedHashCode_2 (by decide) (by decide) rfl rfl ?_
    refine jr_iload_n dJ11_vectorizedHashCode_44 rfl rfl ?_
    refine jr_aload_n dJ11_vectorizedHashCode_45 rfl rfl jv_rr ?_
    obtain ⟨g2, hf⟩ := so_gdE hf
    refine jr_castB q997 (so_m1 k_a0) (so_bigE g2) dJ11_vectorizedHashCode_46 ?_
    refine jr_iload_n dJ11_vectorizedHashCode_49 rfl rfl ?_
    refine jr_iload_n dJ11_vectorizedHashCode_50 rfl rfl ?_
    obtain ⟨r4, h3, hf⟩ := so_b hf
    refine jr_call (st := []) lk_J11_62 (wJ11_signedHashCode a3 a0 a1 a2 S k_a0 h3) jk_r0 rfl rfl (so_le rfl) (so_le rfl) dJ11_vectorizedHashCode_51 ?_
    refine jr_goto (tgt := 157) dJ11_vectorizedHashCode_54 rfl ?_
    obtain rfl := so_e1 hf
    exact jr_iret rfl rfl dJ11_vectorizedHashCode_157
  · have hf := so_f c1 hf
    by_cases c5 : a4 = (5 : Int32)
    · have hf := so_t c5 hf
      refine jr_tsIn (tgt := 57) (5 : Int32) c5 dJ11_vectorizedHashCode_2 (by decide) (by decide) rfl rfl ?_
      refine jr_aload_n dJ11_vectorizedHashCode_57 rfl rfl jv_rr ?_
      exact so_no hf
    · have hf := so_f c5 hf
      by_cases c6 : a4 = (6 : Int32)
      · have hf := so_t c6 hf
        refine jr_tsIn (tgt := 129) (6 : Int32) c6 dJ11_vectorizedHashCode_2 (by decide) (by decide) rfl rfl ?_
        exact so_no hf
      · have hf := so_f c6 hf
        by_cases c7 : a4 = (7 : Int32)
        · have hf := so_t c7 hf
          refine jr_tsIn (tgt := 129) (7 : Int32) c7 dJ11_vectorizedHashCode_2 (by decide) (by decide) rfl rfl ?_
          exact so_no hf
        · have hf := so_f c7 hf
          by_cases c8 : a4 = (8 : Int32)
          · have hf := so_t c8 hf
            refine jr_tsIn (tgt := 90) (8 : Int32) c8 dJ11_vectorizedHashCode_2 (by decide) (by decide) rfl rfl ?_
            refine jr_iload_n dJ11_vectorizedHashCode_90 rfl rfl ?_
            refine jr_aload_n dJ11_vectorizedHashCode_91 rfl rfl jv_rr ?_
            obtain ⟨g9, hf⟩ := so_gdE hf
            refine jr_castB q997 (so_m1 k_a0) (so_bigE g9) dJ11_vectorizedHashCode_92 ?_
            refine jr_iload_n dJ11_vectorizedHashCode_95 rfl rfl ?_
            refine jr_iload_n dJ11_vectorizedHashCode_96 rfl rfl ?_
            exact so_no hf
          · have hf := so_f c8 hf
            by_cases c10 : a4 = (9 : Int32)
            · have hf := so_t c10 hf
              refine jr_tsIn (tgt := 103) (9 : Int32) c10 dJ11_vectorizedHashCode_2 (by decide) (by decide) rfl rfl ?_
              refine jr_iload_n dJ11_vectorizedHashCode_103 rfl rfl ?_
              refine jr_aload_n dJ11_vectorizedHashCode_104 rfl rfl jv_rr ?_
              exact so_no hf
            · have hf := so_f c10 hf
              by_cases c11 : a4 = (10 : Int32)
              · have hf := so_t c11 hf
                refine jr_tsIn (tgt := 116) (10 : Int32) c11 dJ11_vectorizedHashCode_2 (by decide) (by decide) rfl rfl ?_
                refine jr_iload_n dJ11_vectorizedHashCode_116 rfl rfl ?_
                refine jr_aload_n dJ11_vectorizedHashCode_117 rfl rfl jv_rr ?_
                exact so_no hf
              · have hf := so_f c11 hf
                refine jr_tsOut (tgt := 129) [(4 : Int32), (5 : Int32), (6 : Int32), (7 : Int32), (8 : Int32), (9 : Int32), (10 : Int32)] (by decide) (List.forall_mem_cons.mpr ⟨c1, List.forall_mem_cons.mpr ⟨c5, List.forall_mem_cons.mpr ⟨c6, List.forall_mem_cons.mpr ⟨c7, List.forall_mem_cons.mpr ⟨c8, List.forall_mem_cons.mpr ⟨c10, List.forall_mem_cons.mpr ⟨c11, fun _ h => by cases h⟩⟩⟩⟩⟩⟩⟩) dJ11_vectorizedHashCode_2 rfl ?_
                exact so_no hf

/- J15_hashCode -/
abbrev kJ15_hashCode : jx_K := (cJ15_hashCode, 1, RJ15, 2, (Option.some Jvm.ClassFile.FieldType.int), "hashCode", [])
def fJ15_hashCode (a0 : Nat) (S : so_St) : Option Int32 :=
  if (Int32.ofNat (so_l S a0)) = (0 : Int32) then
  (some (0 : Int32))
  else
  if (Int32.ofNat (so_l S a0)) = (1 : Int32) then
  (so_gd (so_in (0 : Int32) (so_l S a0)) fun _ =>
  some ((so_I S a0 (0 : Int32).toNatClampNeg) &&& (255 : Int32)))
  else
  ((fJ11_vectorizedHashCode a0 (0 : Int32) (Int32.ofNat (so_l S a0)) (0 : Int32) (4 : Int32) S).bind fun r5 =>
  some r5)
set_option maxHeartbeats 4000000 in
set_option maxRecDepth 100000 in
theorem wJ15_hashCode {res : Int32}  (a0 : Nat)  (S : so_St) (k_a0 : a0 % 64 ∈ [51]) (hf : fJ15_hashCode a0 S = some res) : jx_Sp 2 yJ15_hashCode (ws_ yJ15_hashCode cJ15_hashCode 1 (Option.some Jvm.ClassFile.FieldType.int)) [.ref a0] S (.inl (some (.int res))) S := by
  refine jx_of (plainFor_of_name (by decide)) (so_le rfl) ?_
  show jg_ (S, S, .inl (some (.int res))) kJ15_hashCode 0 [(0, .ref a0)] [] S
  unfold fJ15_hashCode at hf
  refine jr_aload_n dJ15_hashCode_0 rfl rfl jv_rr ?_
  refine jr_alenB (so_m1 k_a0) dJ15_hashCode_1 ?_
  by_cases c1 : (Int32.ofNat (so_l S a0)) = (0 : Int32)
  · have hf := so_t c1 hf
    refine jr_lsIn (off := 26) (tgt := 28) (0 : Int32) c1 dJ15_hashCode_2 rfl (by decide) rfl ?_
    refine jr_iconst dJ15_hashCode_28 ic_0 ?_
    refine jr_goto (tgt := 51) dJ15_hashCode_29 rfl ?_
    obtain rfl := so_e1 hf
    exact jr_iret rfl rfl dJ15_hashCode_51
  · have hf := so_f c1 hf
    by_cases c2 : (Int32.ofNat (so_l S a0)) = (1 : Int32)
    · have hf := so_t c2 hf
      refine jr_lsIn (off := 30) (tgt := 32) (1 : Int32) c2 dJ15_hashCode_2 rfl (by decide) rfl ?_
      refine jr_aload_n dJ15_hashCode_32 rfl rfl jv_rr ?_
      refine jr_iconst dJ15_hashCode_33 ic_0 ?_
      obtain ⟨g3, hf⟩ := so_gdE hf
      refine jr_baload (so_m1 k_a0) (so_inE g3) dJ15_hashCode_34 ?_
      refine jr_sipush dJ15_hashCode_35 sp_255 ?_
      refine jr_iand dJ15_hashCode_38 ?_
      refine jr_goto (tgt := 51) dJ15_hashCode_39 rfl ?_
      obtain rfl := so_e1 hf
      exact jr_iret rfl rfl dJ15_hashCode_51
    · have hf := so_f c2 hf
      refine jr_lsOut (tgt := 42) [(0 : Int32), (1 : Int32)] (by decide) (List.forall_mem_cons.mpr ⟨c1, List.forall_mem_cons.mpr ⟨c2, fun _ h => by cases h⟩⟩) dJ15_hashCode_2 rfl rfl ?_
      refine jr_aload_n dJ15_hashCode_42 rfl rfl jv_rr ?_
      refine jr_iconst dJ15_hashCode_43 ic_0 ?_
      refine jr_aload_n dJ15_hashCode_44 rfl rfl jv_rr ?_
      refine jr_alenB (so_m1 k_a0) dJ15_hashCode_45 ?_
      refine jr_iconst dJ15_hashCode_46 ic_0 ?_
      refine jr_iconst dJ15_hashCode_47 ic_4 ?_
      obtain ⟨r5, h4, hf⟩ := so_b hf
      refine jr_call (st := []) lk_J15_84 (wJ11_vectorizedHashCode a0 (0 : Int32) (Int32.ofNat (so_l S a0)) (0 : Int32) (4 : Int32) S k_a0 h4) jk_r0 rfl rfl (so_le rfl) (so_le rfl) dJ15_hashCode_48 ?_
      obtain rfl := so_e1 hf
      exact jr_iret rfl rfl dJ15_hashCode_51

/- J9_hashCode -/
abbrev kJ9_hashCode : jx_K := (cJ9_hashCode, 2, RJ9, 3, (Option.some Jvm.ClassFile.FieldType.int), "hashCode", [])
def fJ9_hashCode (a0 : Nat) (S : so_St) : Option (Int32 × so_St) :=
  if (so_I S a0 2) = (0 : Int32) then
  (if (so_I S a0 3) = (0 : Int32) then
  ((fJ9_isLatin1 a0 S).bind fun r4 =>
  if r4 = (0 : Int32) then
  ((so_rk (so_R S a0 0) [51]).bind fun p6 =>
  none)
  else
  ((so_rk (so_R S a0 0) [51]).bind fun p8 =>
  (fJ15_hashCode p8 S).bind fun r11 =>
  if r11 = (0 : Int32) then
  (so_let (so_sI S a0 3 (1 : Int32)) fun S14 =>
  some (r11, S14))
  else
  (so_let (so_sI S a0 2 r11) fun S13 =>
  some (r11, S13))))
  else
  (some (so_I S a0 2, S)))
  else
  (some (so_I S a0 2, S))
set_option maxHeartbeats 4000000 in
set_option maxRecDepth 100000 in
theorem wJ9_hashCode {res : Int32} {S' : so_St}  (a0 : Nat)  (S : so_St) (k_a0 : a0 % 64 ∈ [26]) (hb0 : 44 ≤ a0 / 64) (hf : fJ9_hashCode a0 S = some (res, S')) : jx_Sp 3 yJ9_hashCode (ws_ yJ9_hashCode cJ9_hashCode 2 (Option.some Jvm.ClassFile.FieldType.int)) [.ref a0] S (.inl (some (.int res))) S' := by
  refine jx_of (plainFor_of_name (by decide)) (so_le rfl) ?_
  show jg_ (S, S', .inl (some (.int res))) kJ9_hashCode 0 [(0, .ref a0)] [] S
  unfold fJ9_hashCode at hf
  refine jr_aload_n dJ9_hashCode_0 rfl rfl jv_rr ?_
  refine jr_getI fl_J9_19_26 k_a0 (fun _ => hb0) dJ9_hashCode_1 ?_
  refine jr_istore_n (lv' := [(0, .ref a0), (1, .int (so_I S a0 2))]) dJ9_hashCode_4 rfl (so_le rfl) rfl ?_
  refine jr_iload_n dJ9_hashCode_5 rfl rfl ?_
  refine jr_if_ne (tgt := 58) dJ9_hashCode_6 rfl (fun c1 => ?_) (fun c1 => ?_)
  · have hf := so_f c1 hf
    refine jr_iload_n dJ9_hashCode_58 rfl rfl ?_
    obtain ⟨rfl, rfl⟩ := so_e2 hf
    exact jr_iret rfl rfl dJ9_hashCode_59
  · have hf := so_t c1 hf
    refine jr_aload_n dJ9_hashCode_9 rfl rfl jv_rr ?_
    refine jr_getI fl_J9_23_26 k_a0 (fun _ => hb0) dJ9_hashCode_10 ?_
    refine jr_if_ne (tgt := 58) dJ9_hashCode_13 rfl (fun c2 => ?_) (fun c2 => ?_)
    · have hf := so_f c2 hf
      refine jr_iload_n dJ9_hashCode_58 rfl rfl ?_
      obtain ⟨rfl, rfl⟩ := so_e2 hf
      exact jr_iret rfl rfl dJ9_hashCode_59
    · have hf := so_t c2 hf
      refine jr_aload_n dJ9_hashCode_16 rfl rfl jv_rr ?_
      obtain ⟨r4, h3, hf⟩ := so_b hf
      refine jr_call (st := []) (lk_J9_492_26 26 (so_i1 rfl)) (wJ9_isLatin1 a0 S k_a0 h3) (jk_r2 26 (so_m1 k_a0) (so_le rfl) rfl rfl (fun _ => hb0)) rfl rfl (so_le rfl) (so_le rfl) dJ9_hashCode_17 ?_
      refine jr_if_eq (tgt := 33) dJ9_hashCode_20 rfl (fun c5 => ?_) (fun c5 => ?_)
      · have hf := so_t c5 hf
        refine jr_aload_n dJ9_hashCode_33 rfl rfl jv_rr ?_
        refine jr_getSv fl_J9_9_26 q480 (so_m1 k_a0) dJ9_hashCode_34 ?_
        obtain ⟨p6, h7, hf⟩ := so_b hf
        obtain ⟨h7, k_p6⟩ := so_rk_s h7
        refine jr_rf h7 ?_
        exact so_no hf
      · have hf := so_f c5 hf
        refine jr_aload_n dJ9_hashCode_23 rfl rfl jv_rr ?_
        refine jr_getSv fl_J9_9_26 q480 (so_m1 k_a0) dJ9_hashCode_24 ?_
        obtain ⟨p8, h9, hf⟩ := so_b hf
        obtain ⟨h9, k_p8⟩ := so_rk_s h9
        refine jr_rf h9 ?_
        obtain ⟨r11, h10, hf⟩ := so_b hf
        refine jr_call (st := []) lk_J9_628 (wJ15_hashCode p8 S k_p8 h10) jk_r0 rfl rfl (so_le rfl) (so_le rfl) dJ9_hashCode_27 ?_
        refine jr_goto (tgt := 40) dJ9_hashCode_30 rfl ?_
        refine jr_istore_n (lv' := [(0, .ref a0), (1, .int r11)]) dJ9_hashCode_40 rfl (so_le rfl) rfl ?_
        refine jr_iload_n dJ9_hashCode_41 rfl rfl ?_
        refine jr_if_ne (tgt := 53) dJ9_hashCode_42 rfl (fun c12 => ?_) (fun c12 => ?_)
        · have hf := so_f c12 hf
          refine jr_aload_n dJ9_hashCode_53 rfl rfl jv_rr ?_
          refine jr_iload_n dJ9_hashCode_54 rfl rfl ?_
          refine jr_putI fp_J9_19_26 k_a0 (fun _ => hb0) (fun h => by cases h) rfl rfl dJ9_hashCode_55 ?_
          refine so_let_e hf (fun S13 hf => ?_)
          refine jr_iload_n dJ9_hashCode_58 rfl rfl ?_
          obtain ⟨rfl, rfl⟩ := so_e2 hf
          exact jr_iret rfl rfl dJ9_hashCode_59
        · have hf := so_t c12 hf
          refine jr_aload_n dJ9_hashCode_45 rfl rfl jv_rr ?_
          refine jr_iconst dJ9_hashCode_46 ic_1 ?_
          refine jr_putI fp_J9_23_26 k_a0 (fun _ => hb0) (fun h => by cases h) rfl rfl dJ9_hashCode_47 ?_
          refine so_let_e hf (fun S14 hf => ?_)
          refine jr_goto (tgt := 58) dJ9_hashCode_50 rfl ?_
          refine jr_iload_n dJ9_hashCode_58 rfl rfl ?_
          obtain ⟨rfl, rfl⟩ := so_e2 hf
          exact jr_iret rfl rfl dJ9_hashCode_59

/- J15_equals -/
abbrev kJ15_equals : jx_K := (cJ15_equals, 3, RJ15, 0, (Option.some Jvm.ClassFile.FieldType.boolean), "equals", [])
def LJ15_equals_9 (f0 : Nat) (f1 : Nat) (S : so_St) : Nat → Int32 → Option Int32
  | 0, _ => none
  | n + 1, v2 =>
    if (Int32.ofNat (so_l S f0)) ≤ v2 then
    (some (1 : Int32))
    else
    (so_gd (so_in v2 (so_l S f0)) fun _ =>
    so_gd (so_in v2 (so_l S f1)) fun _ =>
    if (so_I S f0 v2.toNatClampNeg) = (so_I S f1 v2.toNatClampNeg) then
    (LJ15_equals_9 f0 f1 S n (v2 + (1 : Int32)))
    else
    (some (0 : Int32)))
set_option maxHeartbeats 4000000 in
set_option maxRecDepth 100000 in
theorem wJ15_equals_9 {res : Int32}   (f0 : Nat) (f1 : Nat)  (S : so_St) (k_f0 : f0 % 64 ∈ [51]) (k_f1 : f1 % 64 ∈ [51]) : ∀ (n : Nat) (v2 : Int32), LJ15_equals_9 f0 f1 S n v2 = some res → jg_ (S, S, .inl (some (.int res))) kJ15_equals 9 [(0, .ref f0), (1, .ref f1), (2, .int v2)] [] S := by
  intro n
  induction n with
  | zero =>
    intro v2 hf
    exact so_no hf
  | succ n ih =>
    intro v2 hf
    rw [LJ15_equals_9] at hf
    refine jr_iload_n dJ15_equals_9 rfl rfl ?_
    refine jr_aload_n dJ15_equals_10 rfl rfl jv_rr ?_
    refine jr_alenB (so_m1 k_f0) dJ15_equals_11 ?_
    refine jr_icmp_ge (tgt := 32) dJ15_equals_12 rfl (fun c3 => ?_) (fun c3 => ?_)
    · have hf := so_t c3 hf
      refine jr_iconst dJ15_equals_32 ic_1 ?_
      obtain rfl := so_e1 hf
      exact jr_iret rfl rfl dJ15_equals_33
    · have hf := so_f c3 hf
      refine jr_aload_n dJ15_equals_15 rfl rfl jv_rr ?_
      refine jr_iload_n dJ15_equals_16 rfl rfl ?_
      obtain ⟨g4, hf⟩ := so_gdE hf
      refine jr_baload (so_m1 k_f0) (so_inE g4) dJ15_equals_17 ?_
      refine jr_aload_n dJ15_equals_18 rfl rfl jv_rr ?_
      refine jr_iload_n dJ15_equals_19 rfl rfl ?_
      obtain ⟨g5, hf⟩ := so_gdE hf
      refine jr_baload (so_m1 k_f1) (so_inE g5) dJ15_equals_20 ?_
      refine jr_icmp_eq (tgt := 26) dJ15_equals_21 rfl (fun c6 => ?_) (fun c6 => ?_)
      · have hf := so_t c6 hf
        refine jr_iinc (v := v2 + (1 : Int32)) (lv' := [(0, .ref f0), (1, .ref f1), (2, .int (v2 + (1 : Int32)))]) dJ15_equals_26 rfl rfl (so_le rfl) rfl ?_
        refine jr_goto (tgt := 9) dJ15_equals_29 rfl ?_
        exact ih (v2 + (1 : Int32)) hf
      · have hf := so_f c6 hf
        refine jr_iconst dJ15_equals_24 ic_0 ?_
        obtain rfl := so_e1 hf
        exact jr_iret rfl rfl dJ15_equals_25
def fJ15_equals (a0 : Nat) (a1 : Nat) (S : so_St) : Option Int32 :=
  if (Int32.ofNat (so_l S a0)) = (Int32.ofNat (so_l S a1)) then
  (LJ15_equals_9 a0 a1 S so_N (0 : Int32))
  else
  (some (0 : Int32))
set_option maxHeartbeats 4000000 in
set_option maxRecDepth 100000 in
theorem wJ15_equals {res : Int32}  (a0 : Nat) (a1 : Nat)  (S : so_St) (k_a0 : a0 % 64 ∈ [51]) (k_a1 : a1 % 64 ∈ [51]) (hf : fJ15_equals a0 a1 S = some res) : jx_Sp 0 yJ15_equals (ws_ yJ15_equals cJ15_equals 3 (Option.some Jvm.ClassFile.FieldType.boolean)) [.ref a0, .ref a1] S (.inl (some (.int res))) S := by
  refine jx_of (plainFor_of_name (by decide)) (so_le rfl) ?_
  show jg_ (S, S, .inl (some (.int res))) kJ15_equals 0 [(0, .ref a0), (1, .ref a1)] [] S
  unfold fJ15_equals at hf
  refine jr_aload_n dJ15_equals_0 rfl rfl jv_rr ?_
  refine jr_alenB (so_m1 k_a0) dJ15_equals_1 ?_
  refine jr_aload_n dJ15_equals_2 rfl rfl jv_rr ?_
  refine jr_alenB (so_m1 k_a1) dJ15_equals_3 ?_
  refine jr_icmp_ne (tgt := 34) dJ15_equals_4 rfl (fun c1 => ?_) (fun c1 => ?_)
  · have hf := so_f c1 hf
    refine jr_iconst dJ15_equals_34 ic_0 ?_
    obtain rfl := so_e1 hf
    exact jr_iret rfl rfl dJ15_equals_35
  · have hf := so_t c1 hf
    refine jr_iconst dJ15_equals_7 ic_0 ?_
    refine jr_istore_n (lv' := [(0, .ref a0), (1, .ref a1), (2, .int (0 : Int32))]) dJ15_equals_8 rfl (so_le rfl) rfl ?_
    refine wJ15_equals_9 a0 a1 S k_a0 k_a1 so_N (0 : Int32) hf

/- J9_equals -/
abbrev kJ9_equals : jx_K := (cJ9_equals, 3, RJ9, 1, (Option.some Jvm.ClassFile.FieldType.boolean), "equals", [])
def fJ9_equals (a0 : Nat) (a1 : Nat) (S : so_St) : Option Int32 :=
  if a0 = a1 then
  (some (1 : Int32))
  else
  (if (1 : Int32) = (0 : Int32) then
  (some (0 : Int32))
  else
  (so_j (κ := Unit → Option Int32) (ρ := Option Int32) (fun (_u : Unit) =>
  (so_rk (so_R S a0 0) [51]).bind fun p4 =>
  (so_rk (so_R S a1 0) [51]).bind fun p6 =>
  (fJ15_equals p4 p6 S).bind fun r9 =>
  if r9 = (0 : Int32) then
  (some (0 : Int32))
  else
  (some (1 : Int32)))
  (fun J3 =>
  if (1 : Int32) = (0 : Int32) then
  (J3 ())
  else
  (if (so_I S a0 1) = (so_I S a1 1) then
  (J3 ())
  else
  (some (0 : Int32))))))
set_option maxHeartbeats 4000000 in
set_option maxRecDepth 100000 in
theorem wJ9_equals {res : Int32}  (a0 : Nat) (a1 : Nat)  (S : so_St) (k_a0 : a0 % 64 ∈ [26]) (k_a1 : a1 % 64 ∈ [26]) (hb0 : 44 ≤ a0 / 64) (hf : fJ9_equals a0 a1 S = some res) : jx_Sp 1 yJ9_equals (ws_ yJ9_equals cJ9_equals 3 (Option.some Jvm.ClassFile.FieldType.boolean)) [.ref a0, .ref a1] S (.inl (some (.int res))) S := by
  refine jx_of (plainFor_of_name (by decide)) (so_le rfl) ?_
  show jg_ (S, S, .inl (some (.int res))) kJ9_equals 0 [(0, .ref a0), (1, .ref a1)] [] S
  unfold fJ9_equals at hf
  refine jr_aload_n dJ9_equals_0 rfl rfl jv_rr ?_
  refine jr_aload_n dJ9_equals_1 rfl rfl jv_rr ?_
  refine jr_acmpne (tgt := 7) hb0 (so_n63 k_a0 rfl) (Or.inr (so_m1 k_a1)) (so_n63 k_a1 rfl) dJ9_equals_2 rfl (fun c1 => ?_) (fun c1 => ?_)
  · have hf := so_f c1 hf
    refine jr_aload_n dJ9_equals_7 rfl rfl jv_rr ?_
    refine jr_instS q1049 (so_m1 k_a1) dJ9_equals_8 ?_
    refine jr_if_eq (tgt := 54) dJ9_equals_11 rfl (fun c2 => ?_) (fun c2 => ?_)
    · have hf := so_t c2 hf
      refine jr_iconst dJ9_equals_54 ic_0 ?_
      obtain rfl := so_e1 hf
      exact jr_iret rfl rfl dJ9_equals_55
    · have hf := so_f c2 hf
      refine jr_aload_n dJ9_equals_14 rfl rfl jv_rr ?_
      refine jr_castS q1049 (so_m1 k_a1) dJ9_equals_15 ?_
      refine jr_astore_n (lv' := [(0, .ref a0), (1, .ref a1), (2, .ref a1)]) dJ9_equals_18 rfl (so_le rfl) jv_rr rfl ?_
      refine jr_gsC q339 dJ9_equals_19 ?_
      refine so_jE hf (fun J => ∀ (u0 : Unit), J u0 = some res → jg_ (S, S, .inl (some (.int res))) kJ9_equals 36 [(0, .ref a0), (2, .ref a1)] [] S) (fun _u hf => ?_) (fun J3 hJ3 hf => ?_)
      · refine jr_aload_n dJ9_equals_36 rfl rfl jv_rr ?_
        refine jr_getSv fl_J9_9_26 q480 (so_m1 k_a0) dJ9_equals_37 ?_
        obtain ⟨p4, h5, hf⟩ := so_b hf
        obtain ⟨h5, k_p4⟩ := so_rk_s h5
        refine jr_rf h5 ?_
        refine jr_aload_n dJ9_equals_40 rfl rfl jv_rr ?_
        refine jr_getSv fl_J9_9_26 q480 (so_m1 k_a1) dJ9_equals_41 ?_
        obtain ⟨p6, h7, hf⟩ := so_b hf
        obtain ⟨h7, k_p6⟩ := so_rk_s h7
        refine jr_rf h7 ?_
        obtain ⟨r9, h8, hf⟩ := so_b hf
        refine jr_call (st := []) lk_J9_541 (wJ15_equals p4 p6 S k_p4 k_p6 h8) jk_r0 rfl rfl (so_le rfl) (so_le rfl) dJ9_equals_44 ?_
        refine jr_if_eq (tgt := 54) dJ9_equals_47 rfl (fun c10 => ?_) (fun c10 => ?_)
        · have hf := so_t c10 hf
          refine jr_iconst dJ9_equals_54 ic_0 ?_
          obtain rfl := so_e1 hf
          exact jr_iret rfl rfl dJ9_equals_55
        · have hf := so_f c10 hf
          refine jr_iconst dJ9_equals_50 ic_1 ?_
          refine jr_goto (tgt := 55) dJ9_equals_51 rfl ?_
          obtain rfl := so_e1 hf
          exact jr_iret rfl rfl dJ9_equals_55
      · refine jr_if_eq (tgt := 36) dJ9_equals_22 rfl (fun c11 => ?_) (fun c11 => ?_)
        · have hf := so_t c11 hf
          refine jr_sub [0, 2] rfl ?_
          exact hJ3 () hf
        · have hf := so_f c11 hf
          refine jr_aload_n dJ9_equals_25 rfl rfl jv_rr ?_
          refine jr_getSc fl_J9_15_26 q481 (so_m1 k_a0) dJ9_equals_26 ?_
          refine jr_aload_n dJ9_equals_29 rfl rfl jv_rr ?_
          refine jr_getSc fl_J9_15_26 q481 (so_m1 k_a1) dJ9_equals_30 ?_
          refine jr_icmp_ne (tgt := 54) dJ9_equals_33 rfl (fun c12 => ?_) (fun c12 => ?_)
          · have hf := so_f c12 hf
            refine jr_iconst dJ9_equals_54 ic_0 ?_
            obtain rfl := so_e1 hf
            exact jr_iret rfl rfl dJ9_equals_55
          · have hf := so_t c12 hf
            refine jr_sub [0, 2] rfl ?_
            exact hJ3 () hf
  · have hf := so_t c1 hf
    refine jr_iconst dJ9_equals_5 ic_1 ?_
    obtain rfl := so_e1 hf
    exact jr_iret rfl rfl dJ9_equals_6

/- J2_size -/
abbrev kJ2_size : jx_K := (cJ2_size, 1, RJ2, 0, (Option.some Jvm.ClassFile.FieldType.int), "size", [])
def fJ2_size (a0 : Nat) (S : so_St) : Option Int32 :=
  some (so_I S a0 2)
set_option maxHeartbeats 4000000 in
set_option maxRecDepth 100000 in
theorem wJ2_size {res : Int32}  (a0 : Nat)  (S : so_St) (k_a0 : a0 % 64 ∈ [24]) (hf : fJ2_size a0 S = some res) : jx_Sp 0 yJ2_size (ws_ yJ2_size cJ2_size 1 (Option.some Jvm.ClassFile.FieldType.int)) [.ref a0] S (.inl (some (.int res))) S := by
  refine jx_of (plainFor_of_name (by decide)) (so_le rfl) ?_
  show jg_ (S, S, .inl (some (.int res))) kJ2_size 0 [(0, .ref a0)] [] S
  unfold fJ2_size at hf
  refine jr_aload_n dJ2_size_0 rfl rfl jv_rr ?_
  refine jr_getI fl_J2_48_24 k_a0 (so_n26 rfl) dJ2_size_1 ?_
  obtain rfl := so_e1 hf
  exact jr_iret rfl rfl dJ2_size_4

/- X10_isFull -/
abbrev kX10_isFull : jx_K := (cX10_isFull, 4, RX10, 4, (Option.some Jvm.ClassFile.FieldType.boolean), "isFull", [])
def fX10_isFull (a0 : Nat) (a1 : Nat) (S : so_St) : Option (Int32 × so_St) :=
  (so_rk (so_R S a0 5) [1]).bind fun p1 =>
  if (so_I S p1 9) = (60 : Int32) then
  (some ((1 : Int32), S))
  else
  (so_gd (so_big a1) fun _ =>
  so_b2 (fJ9_hashCode a1 S) fun r6 S7 =>
  so_j (κ := Int32 → Option (Int32 × so_St)) (ρ := Option (Int32 × so_St)) (fun (v8 : Int32) =>
  if v8 = (0 : Int32) then
  ((so_rk (so_R S7 a0 5) [1]).bind fun p11 =>
  if (so_I S7 p11 6) = (8 : Int32) then
  (some ((1 : Int32), S7))
  else
  (some ((0 : Int32), S7)))
  else
  if v8 = (1 : Int32) then
  ((so_rk (so_R S7 a0 5) [1]).bind fun p15 =>
  if (so_I S7 p15 7) = (12 : Int32) then
  (some ((1 : Int32), S7))
  else
  (some ((0 : Int32), S7)))
  else
  if v8 = (2 : Int32) then
  ((so_rk (so_R S7 a0 5) [1]).bind fun p19 =>
  (so_rk (so_R S7 p19 5) [24]).bind fun p21 =>
  (fJ2_size p21 S7).bind fun r24 =>
  if r24 = (6 : Int32) then
  (some ((1 : Int32), S7))
  else
  (some ((0 : Int32), S7)))
  else
  (some ((0 : Int32), S7)))
  (fun J9 =>
  if r6 = (3641802 : Int32) then
  ((fJ9_equals a1 282 S7).bind fun r28 =>
  if r28 = (0 : Int32) then
  (J9 (-1 : Int32))
  else
  (J9 (1 : Int32)))
  else
  if r6 = (99469088 : Int32) then
  ((fJ9_equals a1 154 S7).bind fun r32 =>
  if r32 = (0 : Int32) then
  (J9 (-1 : Int32))
  else
  (J9 (0 : Int32)))
  else
  if r6 = (106659145 : Int32) then
  ((fJ9_equals a1 410 S7).bind fun r36 =>
  if r36 = (0 : Int32) then
  (J9 (-1 : Int32))
  else
  (J9 (2 : Int32)))
  else
  (J9 (-1 : Int32))))
set_option maxHeartbeats 4000000 in
set_option maxRecDepth 100000 in
theorem wX10_isFull {res : Int32} {S' : so_St}  (a0 : Nat) (a1 : Nat)  (S : so_St) (k_a0 : a0 % 64 ∈ [2]) (k_a1 : a1 % 64 ∈ [26]) (hf : fX10_isFull a0 a1 S = some (res, S')) : jx_Sp 4 yX10_isFull (ws_ yX10_isFull cX10_isFull 4 (Option.some Jvm.ClassFile.FieldType.boolean)) [.ref a0, .ref a1] S (.inl (some (.int res))) S' := by
  refine jx_of (plainFor_of_name (by decide)) (so_le rfl) ?_
  show jg_ (S, S', .inl (some (.int res))) kX10_isFull 0 [(0, .ref a0), (1, .ref a1)] [] S
  unfold fX10_isFull at hf
  refine jr_aload_n dX10_isFull_0 rfl rfl jv_rr ?_
  refine jr_getR fl_X10_14_2 k_a0 (so_n26 rfl) dX10_isFull_1 ?_
  obtain ⟨p1, h2, hf⟩ := so_b hf
  obtain ⟨h2, k_p1⟩ := so_rk_s h2
  refine jr_rf h2 ?_
  refine jr_getI fl_X10_47_1 k_p1 (so_n26 rfl) dX10_isFull_4 ?_
  refine jr_bipush dX10_isFull_7 bp_60 ?_
  refine jr_icmp_ne (tgt := 14) dX10_isFull_9 rfl (fun c3 => ?_) (fun c3 => ?_)
  · have hf := so_f c3 hf
    refine jr_aload_n dX10_isFull_14 rfl rfl jv_rr ?_
    refine jr_astore_n (lv' := [(0, .ref a0), (1, .ref a1), (2, .ref a1)]) dX10_isFull_15 rfl (so_le rfl) jv_rr rfl ?_
    refine jr_iconst dX10_isFull_16 ic_m1 ?_
    refine jr_istore_n (lv' := [(0, .ref a0), (1, .ref a1), (2, .ref a1), (3, .int (-1 : Int32))]) dX10_isFull_17 rfl (so_le rfl) rfl ?_
    refine jr_aload_n dX10_isFull_18 rfl rfl jv_rr ?_
    obtain ⟨g4, hf⟩ := so_gdE hf
    obtain ⟨r6, S7, h5, hf⟩ := so_b2E hf
    refine jr_call (st := []) (lk_X10_50_26 26 (so_i1 rfl)) (wJ9_hashCode a1 S k_a1 (so_bigE g4) h5) (jk_r2 26 (so_m1 k_a1) (so_le rfl) rfl rfl (fun _ => (so_bigE g4))) rfl rfl (so_le rfl) (so_le rfl) dX10_isFull_19 ?_
    refine so_jE hf (fun J => ∀ (v8 : Int32), J v8 = some (res, S') → jg_ (S, S', .inl (some (.int res))) kX10_isFull 95 [(0, .ref a0), (3, .int v8)] [] S7) (fun v8 hf => ?_) (fun J9 hJ9 hf => ?_)
    · refine jr_iload_n dX10_isFull_95 rfl rfl ?_
      by_cases c10 : v8 = (0 : Int32)
      · have hf := so_t c10 hf
        refine jr_tsIn (tgt := 124) (0 : Int32) c10 dX10_isFull_96 (by decide) (by decide) rfl rfl ?_
        refine jr_aload_n dX10_isFull_124 rfl rfl jv_rr ?_
        refine jr_getR fl_X10_14_2 k_a0 (so_n26 rfl) dX10_isFull_125 ?_
        obtain ⟨p11, h12, hf⟩ := so_b hf
        obtain ⟨h12, k_p11⟩ := so_rk_s h12
        refine jr_rf h12 ?_
        refine jr_getI fl_X10_65_1 k_p11 (so_n26 rfl) dX10_isFull_128 ?_
        refine jr_bipush dX10_isFull_131 bp_8 ?_
        refine jr_icmp_ne (tgt := 140) dX10_isFull_133 rfl (fun c13 => ?_) (fun c13 => ?_)
        · have hf := so_f c13 hf
          refine jr_iconst dX10_isFull_140 ic_0 ?_
          obtain ⟨rfl, rfl⟩ := so_e2 hf
          exact jr_iret rfl rfl dX10_isFull_141
        · have hf := so_t c13 hf
          refine jr_iconst dX10_isFull_136 ic_1 ?_
          refine jr_goto (tgt := 141) dX10_isFull_137 rfl ?_
          obtain ⟨rfl, rfl⟩ := so_e2 hf
          exact jr_iret rfl rfl dX10_isFull_141
      · have hf := so_f c10 hf
        by_cases c14 : v8 = (1 : Int32)
        · have hf := so_t c14 hf
          refine jr_tsIn (tgt := 142) (1 : Int32) c14 dX10_isFull_96 (by decide) (by decide) rfl rfl ?_
          refine jr_aload_n dX10_isFull_142 rfl rfl jv_rr ?_
          refine jr_getR fl_X10_14_2 k_a0 (so_n26 rfl) dX10_isFull_143 ?_
          obtain ⟨p15, h16, hf⟩ := so_b hf
          obtain ⟨h16, k_p15⟩ := so_rk_s h16
          refine jr_rf h16 ?_
          refine jr_getI fl_X10_68_1 k_p15 (so_n26 rfl) dX10_isFull_146 ?_
          refine jr_bipush dX10_isFull_149 bp_12 ?_
          refine jr_icmp_ne (tgt := 158) dX10_isFull_151 rfl (fun c17 => ?_) (fun c17 => ?_)
          · have hf := so_f c17 hf
            refine jr_iconst dX10_isFull_158 ic_0 ?_
            obtain ⟨rfl, rfl⟩ := so_e2 hf
            exact jr_iret rfl rfl dX10_isFull_159
          · have hf := so_t c17 hf
            refine jr_iconst dX10_isFull_154 ic_1 ?_
            refine jr_goto (tgt := 159) dX10_isFull_155 rfl ?_
            obtain ⟨rfl, rfl⟩ := so_e2 hf
            exact jr_iret rfl rfl dX10_isFull_159
        · have hf := so_f c14 hf
          by_cases c18 : v8 = (2 : Int32)
          · have hf := so_t c18 hf
            refine jr_tsIn (tgt := 160) (2 : Int32) c18 dX10_isFull_96 (by decide) (by decide) rfl rfl ?_
            refine jr_aload_n dX10_isFull_160 rfl rfl jv_rr ?_
            refine jr_getR fl_X10_14_2 k_a0 (so_n26 rfl) dX10_isFull_161 ?_
            obtain ⟨p19, h20, hf⟩ := so_b hf
            obtain ⟨h20, k_p19⟩ := so_rk_s h20
            refine jr_rf h20 ?_
            refine jr_getR fl_X10_71_1 k_p19 (so_n26 rfl) dX10_isFull_164 ?_
            obtain ⟨p21, h22, hf⟩ := so_b hf
            obtain ⟨h22, k_p21⟩ := so_rk_s h22
            refine jr_rf h22 ?_
            obtain ⟨r24, h23, hf⟩ := so_b hf
            refine jr_callM (st := []) lk_X10_75_24 (wJ2_size p21 S7 k_p21 h23) k_p21 rfl rfl rfl (so_le rfl) (so_le rfl) dX10_isFull_167 ?_
            refine jr_bipush dX10_isFull_170 bp_6 ?_
            refine jr_icmp_ne (tgt := 179) dX10_isFull_172 rfl (fun c25 => ?_) (fun c25 => ?_)
            · have hf := so_f c25 hf
              refine jr_iconst dX10_isFull_179 ic_0 ?_
              obtain ⟨rfl, rfl⟩ := so_e2 hf
              exact jr_iret rfl rfl dX10_isFull_180
            · have hf := so_t c25 hf
              refine jr_iconst dX10_isFull_175 ic_1 ?_
              refine jr_goto (tgt := 180) dX10_isFull_176 rfl ?_
              obtain ⟨rfl, rfl⟩ := so_e2 hf
              exact jr_iret rfl rfl dX10_isFull_180
          · have hf := so_f c18 hf
            refine jr_tsOut (tgt := 181) [(0 : Int32), (1 : Int32), (2 : Int32)] (by decide) (List.forall_mem_cons.mpr ⟨c10, List.forall_mem_cons.mpr ⟨c14, List.forall_mem_cons.mpr ⟨c18, fun _ h => by cases h⟩⟩⟩) dX10_isFull_96 rfl ?_
            refine jr_iconst dX10_isFull_181 ic_0 ?_
            obtain ⟨rfl, rfl⟩ := so_e2 hf
            exact jr_iret rfl rfl dX10_isFull_182
    · by_cases c26 : r6 = (3641802 : Int32)
      · have hf := so_t c26 hf
        refine jr_lsIn (off := 48) (tgt := 70) (3641802 : Int32) c26 dX10_isFull_22 rfl (by decide) rfl ?_
        refine jr_aload_n dX10_isFull_70 rfl rfl jv_rr ?_
        refine jr_ldcS (i := 1) (tx := "wall") (show (RX10, 61, "wall", 1) ∈ jw_lits from by decide +kernel) dX10_isFull_71 ?_
        obtain ⟨r28, h27, hf⟩ := so_b hf
        refine jr_call (st := []) (lk_X10_57_26 26 (so_i1 rfl)) (wJ9_equals a1 282 S7 k_a1 (so_i1 rfl) (so_bigE g4) h27) (jk_r2 26 (so_m1 k_a1) (so_le rfl) rfl rfl (fun _ => (so_bigE g4))) rfl rfl (so_le rfl) (so_le rfl) dX10_isFull_73 ?_
        refine jr_if_eq (tgt := 95) dX10_isFull_76 rfl (fun c29 => ?_) (fun c29 => ?_)
        · have hf := so_t c29 hf
          refine jr_sub [0, 3] rfl ?_
          exact hJ9 (-1 : Int32) hf
        · have hf := so_f c29 hf
          refine jr_iconst dX10_isFull_79 ic_1 ?_
          refine jr_istore_n (lv' := [(0, .ref a0), (1, .ref a1), (2, .ref a1), (3, .int (1 : Int32))]) dX10_isFull_80 rfl (so_le rfl) rfl ?_
          refine jr_goto (tgt := 95) dX10_isFull_81 rfl ?_
          refine jr_sub [0, 3] rfl ?_
          exact hJ9 (1 : Int32) hf
      · have hf := so_f c26 hf
        by_cases c30 : r6 = (99469088 : Int32)
        · have hf := so_t c30 hf
          refine jr_lsIn (off := 34) (tgt := 56) (99469088 : Int32) c30 dX10_isFull_22 rfl (by decide) rfl ?_
          refine jr_aload_n dX10_isFull_56 rfl rfl jv_rr ?_
          refine jr_ldcS (i := 0) (tx := "house") (show (RX10, 55, "house", 0) ∈ jw_lits from by decide +kernel) dX10_isFull_57 ?_
          obtain ⟨r32, h31, hf⟩ := so_b hf
          refine jr_call (st := []) (lk_X10_57_26 26 (so_i1 rfl)) (wJ9_equals a1 154 S7 k_a1 (so_i1 rfl) (so_bigE g4) h31) (jk_r2 26 (so_m1 k_a1) (so_le rfl) rfl rfl (fun _ => (so_bigE g4))) rfl rfl (so_le rfl) (so_le rfl) dX10_isFull_59 ?_
          refine jr_if_eq (tgt := 95) dX10_isFull_62 rfl (fun c33 => ?_) (fun c33 => ?_)
          · have hf := so_t c33 hf
            refine jr_sub [0, 3] rfl ?_
            exact hJ9 (-1 : Int32) hf
          · have hf := so_f c33 hf
            refine jr_iconst dX10_isFull_65 ic_0 ?_
            refine jr_istore_n (lv' := [(0, .ref a0), (1, .ref a1), (2, .ref a1), (3, .int (0 : Int32))]) dX10_isFull_66 rfl (so_le rfl) rfl ?_
            refine jr_goto (tgt := 95) dX10_isFull_67 rfl ?_
            refine jr_sub [0, 3] rfl ?_
            exact hJ9 (0 : Int32) hf
        · have hf := so_f c30 hf
          by_cases c34 : r6 = (106659145 : Int32)
          · have hf := so_t c34 hf
            refine jr_lsIn (off := 62) (tgt := 84) (106659145 : Int32) c34 dX10_isFull_22 rfl (by decide) rfl ?_
            refine jr_aload_n dX10_isFull_84 rfl rfl jv_rr ?_
            refine jr_ldcS (i := 2) (tx := "piano") (show (RX10, 63, "piano", 2) ∈ jw_lits from by decide +kernel) dX10_isFull_85 ?_
            obtain ⟨r36, h35, hf⟩ := so_b hf
            refine jr_call (st := []) (lk_X10_57_26 26 (so_i1 rfl)) (wJ9_equals a1 410 S7 k_a1 (so_i1 rfl) (so_bigE g4) h35) (jk_r2 26 (so_m1 k_a1) (so_le rfl) rfl rfl (fun _ => (so_bigE g4))) rfl rfl (so_le rfl) (so_le rfl) dX10_isFull_87 ?_
            refine jr_if_eq (tgt := 95) dX10_isFull_90 rfl (fun c37 => ?_) (fun c37 => ?_)
            · have hf := so_t c37 hf
              refine jr_sub [0, 3] rfl ?_
              exact hJ9 (-1 : Int32) hf
            · have hf := so_f c37 hf
              refine jr_iconst dX10_isFull_93 ic_2 ?_
              refine jr_istore_n (lv' := [(0, .ref a0), (1, .ref a1), (2, .ref a1), (3, .int (2 : Int32))]) dX10_isFull_94 rfl (so_le rfl) rfl ?_
              refine jr_sub [0, 3] rfl ?_
              exact hJ9 (2 : Int32) hf
          · have hf := so_f c34 hf
            refine jr_lsOut (tgt := 95) [(3641802 : Int32), (99469088 : Int32), (106659145 : Int32)] (by decide) (List.forall_mem_cons.mpr ⟨c26, List.forall_mem_cons.mpr ⟨c30, List.forall_mem_cons.mpr ⟨c34, fun _ h => by cases h⟩⟩⟩) dX10_isFull_22 rfl rfl ?_
            refine jr_sub [0, 3] rfl ?_
            exact hJ9 (-1 : Int32) hf
  · have hf := so_t c3 hf
    refine jr_iconst dX10_isFull_12 ic_1 ?_
    obtain ⟨rfl, rfl⟩ := so_e2 hf
    exact jr_iret rfl rfl dX10_isFull_13

/- J3_init_3 -/
abbrev kJ3_init_3 : jx_K := (cJ3_init_3, 5, RJ3, 1, (Option.none : Option Jvm.ClassFile.FieldType), "<init>", [])
def fJ3_init_3 (a0 : Nat) (a3 : Int32) (a4 : Int32) (S : so_St) : Option so_St :=
  so_let (so_sR S a0 0 (some a0)) fun S1 =>
  so_let (so_sR S1 a0 1 (some 63)) fun S2 =>
  so_let (so_sR S2 a0 2 (some 127)) fun S3 =>
  if a4 = (0 : Int32) then
  (so_let (so_sR S3 a0 1 none) fun S5 =>
  so_let (so_sR S5 a0 3 none) fun S6 =>
  so_let (so_sR S6 a0 0 none) fun S7 =>
  if a3 = (0 : Int32) then
  (so_let (so_sR S7 a0 2 none) fun S9 =>
  some S9)
  else
  (some S7))
  else
  (none)
set_option maxHeartbeats 4000000 in
set_option maxRecDepth 100000 in
theorem wJ3_init_3 {S' : so_St}  (a0 : Nat) (a3 : Int32) (a4 : Int32)  (S : so_St) (k_a0 : a0 % 64 ∈ [3]) (hf : fJ3_init_3 a0 a3 a4 S = some S') : jx_Sp 1 yJ3_init_3 (ws_ yJ3_init_3 cJ3_init_3 5 (Option.none : Option Jvm.ClassFile.FieldType)) [.ref a0, .null, .null, .int a3, .int a4] S (.inl none) S' := by
  refine jx_of (plainFor_of_name (by decide)) (so_le rfl) ?_
  show jg_ (S, S', .inl none) kJ3_init_3 0 [(0, .ref a0), (1, .null), (2, .null), (3, .int a3), (4, .int a4)] [] S
  unfold fJ3_init_3 at hf
  refine jr_aload_n dJ3_init_3_0 rfl rfl jv_rr ?_
  refine jr_objInit (so_n63 k_a0 rfl) q204 q155 q156 (so_le rfl) (so_le rfl) dJ3_init_3_1 ?_
  refine jr_aload_n dJ3_init_3_4 rfl rfl jv_rr ?_
  refine jr_aload_n dJ3_init_3_5 rfl rfl jv_rr ?_
  refine jr_putR (r := (some a0)) rfl fp_J3_7_3 k_a0 (so_n26 rfl) (fun h => by cases h) rfl dJ3_init_3_6 ?_
  refine so_let_e hf (fun S1 hf => ?_)
  refine jr_aload_n dJ3_init_3_9 rfl rfl jv_rr ?_
  refine jr_gsU q205 dJ3_init_3_10 ?_
  refine jr_putR (r := (some 63)) rfl fp_J3_17_3 k_a0 (so_n26 rfl) (fun h => by cases h) rfl dJ3_init_3_13 ?_
  refine so_let_e hf (fun S2 hf => ?_)
  refine jr_aload_n dJ3_init_3_16 rfl rfl jv_rr ?_
  refine jr_gsN q207 dJ3_init_3_17 ?_
  refine jr_putR (r := (some 127)) rfl fp_J3_24_3 k_a0 (so_n26 rfl) (fun h => by cases h) rfl dJ3_init_3_20 ?_
  refine so_let_e hf (fun S3 hf => ?_)
  refine jr_iload dJ3_init_3_23 rfl ?_
  refine jr_if_eq (tgt := 36) dJ3_init_3_25 rfl (fun c4 => ?_) (fun c4 => ?_)
  · have hf := so_t c4 hf
    refine jr_aload_n dJ3_init_3_36 rfl rfl jv_rr ?_
    refine jr_null dJ3_init_3_37 ?_
    refine jr_putR (r := none) rfl fp_J3_17_3 k_a0 (so_n26 rfl) (fun h => by cases h) rfl dJ3_init_3_38 ?_
    refine so_let_e hf (fun S5 hf => ?_)
    refine jr_aload_n dJ3_init_3_41 rfl rfl jv_rr ?_
    refine jr_aload_n dJ3_init_3_42 rfl rfl jv_rn ?_
    refine jr_putR (r := none) rfl fp_J3_31_3 k_a0 (so_n26 rfl) (fun h => by cases h) rfl dJ3_init_3_43 ?_
    refine so_let_e hf (fun S6 hf => ?_)
    refine jr_aload_n dJ3_init_3_46 rfl rfl jv_rr ?_
    refine jr_aload_n dJ3_init_3_47 rfl rfl jv_rn ?_
    refine jr_putR (r := none) rfl fp_J3_7_3 k_a0 (so_n26 rfl) (fun h => by cases h) rfl dJ3_init_3_48 ?_
    refine so_let_e hf (fun S7 hf => ?_)
    refine jr_iload_n dJ3_init_3_51 rfl rfl ?_
    refine jr_if_ne (tgt := 60) dJ3_init_3_52 rfl (fun c8 => ?_) (fun c8 => ?_)
    · have hf := so_f c8 hf
      obtain rfl := so_e1 hf
      exact jr_vret rfl dJ3_init_3_60
    · have hf := so_t c8 hf
      refine jr_aload_n dJ3_init_3_55 rfl rfl jv_rr ?_
      refine jr_null dJ3_init_3_56 ?_
      refine jr_putR (r := none) rfl fp_J3_24_3 k_a0 (so_n26 rfl) (fun h => by cases h) rfl dJ3_init_3_57 ?_
      refine so_let_e hf (fun S9 hf => ?_)
      obtain rfl := so_e1 hf
      exact jr_vret rfl dJ3_init_3_60
  · have hf := so_f c4 hf
    refine jr_aload_n dJ3_init_3_28 rfl rfl jv_rr ?_
    exact so_no hf

/- J4_init_3 -/
abbrev kJ4_init_3 : jx_K := (cJ4_init_3, 5, RJ4, 2, (Option.none : Option Jvm.ClassFile.FieldType), "<init>", [])
def fJ4_init_3 (a0 : Nat) (a3 : Int32) (a4 : Int32) (S : so_St) : Option so_St :=
  (fJ3_init_3 a0 a3 a4 S).bind fun S3 =>
  some S3
set_option maxHeartbeats 4000000 in
set_option maxRecDepth 100000 in
theorem wJ4_init_3 {S' : so_St}  (a0 : Nat) (a3 : Int32) (a4 : Int32)  (S : so_St) (k_a0 : a0 % 64 ∈ [3]) (hf : fJ4_init_3 a0 a3 a4 S = some S') : jx_Sp 2 yJ4_init_3 (ws_ yJ4_init_3 cJ4_init_3 5 (Option.none : Option Jvm.ClassFile.FieldType)) [.ref a0, .null, .null, .int a3, .int a4] S (.inl none) S' := by
  refine jx_of (plainFor_of_name (by decide)) (so_le rfl) ?_
  show jg_ (S, S', .inl none) kJ4_init_3 0 [(0, .ref a0), (1, .null), (2, .null), (3, .int a3), (4, .int a4)] [] S
  unfold fJ4_init_3 at hf
  refine jr_aload_n dJ4_init_3_0 rfl rfl jv_rr ?_
  refine jr_aload_n dJ4_init_3_1 rfl rfl jv_rn ?_
  refine jr_aload_n dJ4_init_3_2 rfl rfl jv_rn ?_
  refine jr_iload_n dJ4_init_3_3 rfl rfl ?_
  refine jr_iload dJ4_init_3_4 rfl ?_
  obtain ⟨S3, h1, hf⟩ := so_b hf
  refine jr_call (st := []) lk_J4_16 (wJ3_init_3 a0 a3 a4 S k_a0 h1) (jk_r1 (so_n63 k_a0 rfl)) rfl rfl (so_le rfl) (so_le rfl) dJ4_init_3_6 ?_
  obtain rfl := so_e1 hf
  exact jr_vret rfl dJ4_init_3_9

/- X11_init -/
abbrev kX11_init : jx_K := (cX11_init, 3, RX11, 3, (Option.none : Option Jvm.ClassFile.FieldType), "<init>", [])
def fX11_init (a0 : Nat) (a1 : Int32) (a2 : Int32) (S : so_St) : Option so_St :=
  (fJ4_init_3 a0 (0 : Int32) (0 : Int32) S).bind fun S3 =>
  so_let (so_sI S3 a0 6 a1) fun S4 =>
  so_let (so_sI S4 a0 7 a2) fun S5 =>
  some S5
set_option maxHeartbeats 4000000 in
set_option maxRecDepth 100000 in
theorem wX11_init {S' : so_St}  (a0 : Nat) (a1 : Int32) (a2 : Int32)  (S : so_St) (k_a0 : a0 % 64 ∈ [3]) (hf : fX11_init a0 a1 a2 S = some S') : jx_Sp 3 yX11_init (ws_ yX11_init cX11_init 3 (Option.none : Option Jvm.ClassFile.FieldType)) [.ref a0, .int a1, .int a2] S (.inl none) S' := by
  refine jx_of (plainFor_of_name (by decide)) (so_le rfl) ?_
  show jg_ (S, S', .inl none) kX11_init 0 [(0, .ref a0), (1, .int a1), (2, .int a2)] [] S
  unfold fX11_init at hf
  refine jr_aload_n dX11_init_0 rfl rfl jv_rr ?_
  refine jr_null dX11_init_1 ?_
  refine jr_null dX11_init_2 ?_
  refine jr_iconst dX11_init_3 ic_0 ?_
  refine jr_iconst dX11_init_4 ic_0 ?_
  obtain ⟨S3, h1, hf⟩ := so_b hf
  refine jr_call (st := []) lk_X11_1 (wJ4_init_3 a0 (0 : Int32) (0 : Int32) S k_a0 h1) (jk_r1 (so_n63 k_a0 rfl)) rfl rfl (so_le rfl) (so_le rfl) dX11_init_5 ?_
  refine jr_aload_n dX11_init_8 rfl rfl jv_rr ?_
  refine jr_iload_n dX11_init_9 rfl rfl ?_
  refine jr_putI fp_X11_7_3 k_a0 (so_n26 rfl) (fun _ => rfl) rfl rfl dX11_init_10 ?_
  refine so_let_e hf (fun S4 hf => ?_)
  refine jr_aload_n dX11_init_13 rfl rfl jv_rr ?_
  refine jr_iload_n dX11_init_14 rfl rfl ?_
  refine jr_putI fp_X11_13_3 k_a0 (so_n26 rfl) (fun _ => rfl) rfl rfl dX11_init_15 ?_
  refine so_let_e hf (fun S5 hf => ?_)
  obtain rfl := so_e1 hf
  exact jr_vret rfl dX11_init_18

/- J9_coder -/
abbrev kJ9_coder : jx_K := (cJ9_coder, 1, RJ9, 0, (Option.some Jvm.ClassFile.FieldType.byte), "coder", [])
def fJ9_coder (a0 : Nat) (S : so_St) : Option Int32 :=
  if (1 : Int32) = (0 : Int32) then
  (some (1 : Int32))
  else
  (so_gd (so_nb (so_I S a0 1)) fun _ =>
  some (so_I S a0 1))
set_option maxHeartbeats 4000000 in
set_option maxRecDepth 100000 in
theorem wJ9_coder {res : Int32}  (a0 : Nat)  (S : so_St) (k_a0 : a0 % 64 ∈ [26]) (hf : fJ9_coder a0 S = some res) : jx_Sp 0 yJ9_coder (ws_ yJ9_coder cJ9_coder 1 (Option.some Jvm.ClassFile.FieldType.byte)) [.ref a0] S (.inl (some (.int res))) S := by
  refine jx_of (plainFor_of_name (by decide)) (so_le rfl) ?_
  show jg_ (S, S, .inl (some (.int res))) kJ9_coder 0 [(0, .ref a0)] [] S
  unfold fJ9_coder at hf
  refine jr_gsC q339 dJ9_coder_0 ?_
  refine jr_if_eq (tgt := 13) dJ9_coder_3 rfl (fun c1 => ?_) (fun c1 => ?_)
  · have hf := so_t c1 hf
    refine jr_iconst dJ9_coder_13 ic_1 ?_
    obtain rfl := so_e1 hf
    exact jr_iret rfl rfl dJ9_coder_14
  · have hf := so_f c1 hf
    refine jr_aload_n dJ9_coder_6 rfl rfl jv_rr ?_
    refine jr_getSc fl_J9_15_26 q481 (so_m1 k_a0) dJ9_coder_7 ?_
    refine jr_goto (tgt := 14) dJ9_coder_10 rfl ?_
    obtain ⟨g2, hf⟩ := so_gdE hf
    obtain rfl := so_e1 hf
    exact jr_iret rfl (so_nbE g2).1 dJ9_coder_14

/- J9_length -/
abbrev kJ9_length : jx_K := (cJ9_length, 1, RJ9, 1, (Option.some Jvm.ClassFile.FieldType.int), "length", [])
def fJ9_length (a0 : Nat) (S : so_St) : Option Int32 :=
  (so_rk (so_R S a0 0) [51]).bind fun p1 =>
  so_gd (so_big a0) fun _ =>
  (fJ9_coder a0 S).bind fun r5 =>
  some ((Int32.ofNat (so_l S p1)) >>> (r5 &&& 31))
set_option maxHeartbeats 4000000 in
set_option maxRecDepth 100000 in
theorem wJ9_length {res : Int32}  (a0 : Nat)  (S : so_St) (k_a0 : a0 % 64 ∈ [26]) (hf : fJ9_length a0 S = some res) : jx_Sp 1 yJ9_length (ws_ yJ9_length cJ9_length 1 (Option.some Jvm.ClassFile.FieldType.int)) [.ref a0] S (.inl (some (.int res))) S := by
  refine jx_of (plainFor_of_name (by decide)) (so_le rfl) ?_
  show jg_ (S, S, .inl (some (.int res))) kJ9_length 0 [(0, .ref a0)] [] S
  unfold fJ9_length at hf
  refine jr_aload_n dJ9_length_0 rfl rfl jv_rr ?_
  refine jr_getSv fl_J9_9_26 q480 (so_m1 k_a0) dJ9_length_1 ?_
  obtain ⟨p1, h2, hf⟩ := so_b hf
  obtain ⟨h2, k_p1⟩ := so_rk_s h2
  refine jr_rf h2 ?_
  refine jr_alenB (so_m1 k_p1) dJ9_length_4 ?_
  refine jr_aload_n dJ9_length_5 rfl rfl jv_rr ?_
  obtain ⟨g3, hf⟩ := so_gdE hf
  obtain ⟨r5, h4, hf⟩ := so_b hf
  refine jr_call (st := [.int (Int32.ofNat (so_l S p1))]) (lk_J9_335_26 26 (so_i1 rfl)) (wJ9_coder a0 S k_a0 h4) (jk_r2 26 (so_m1 k_a0) (so_le rfl) rfl rfl (fun _ => (so_bigE g3))) rfl rfl (so_le rfl) (so_le rfl) dJ9_length_6 ?_
  refine jr_ishr dJ9_length_9 ?_
  obtain rfl := so_e1 hf
  exact jr_iret rfl rfl dJ9_length_10

/- X9_wrong -/
abbrev kX9_wrong : jx_K := (cX9_wrong, 1, RX9, 4, (Option.some (Jvm.ClassFile.FieldType.object "TunedHouses$Wrong")), "wrong", [])
def fX9_wrong (a0 : Nat) (S : so_St) : Option (Nat × so_St) :=
  so_let (so_new S 3 0 8) fun S1 =>
  (fX11_init (so_at S 3) (1 : Int32) (so_I S1 a0 2) S1).bind fun S4 =>
  some ((so_at S 3), S4)
set_option maxHeartbeats 4000000 in
set_option maxRecDepth 100000 in
theorem wX9_wrong {res : Nat} {S' : so_St}  (a0 : Nat)  (S : so_St) (k_a0 : a0 % 64 ∈ [2, 5, 13, 19]) (hf : fX9_wrong a0 S = some (res, S')) : jx_Sp 4 yX9_wrong (ws_ yX9_wrong cX9_wrong 1 (Option.some (Jvm.ClassFile.FieldType.object "TunedHouses$Wrong"))) [.ref a0] S (.inl (some (.ref res))) S' := by
  refine jx_of (plainFor_of_name (by decide)) (so_le rfl) ?_
  show jg_ (S, S', .inl (some (.ref res))) kX9_wrong 0 [(0, .ref a0)] [] S
  unfold fX9_wrong at hf
  refine jr_new nw_X9_40 dX9_wrong_0 ?_
  refine so_let_e hf (fun S1 hf => ?_)
  refine jr_dup dX9_wrong_3 rfl ?_
  refine jr_iconst dX9_wrong_4 ic_1 ?_
  refine jr_aload_n dX9_wrong_5 rfl rfl jv_rr ?_
  refine jr_getI fl_X9_19_2_5_13_19 k_a0 (so_n26 rfl) dX9_wrong_6 ?_
  obtain ⟨S4, h2, hf⟩ := so_b hf
  refine jr_call (st := [.ref (so_at S 3)]) lk_X9_42 (wX11_init (so_at S 3) (1 : Int32) (so_I S1 a0 2) S1 (so_atk rfl) h2) (jk_r1 (so_n63 (so_atk rfl) rfl)) rfl rfl (so_le rfl) (so_le rfl) dX9_wrong_9 ?_
  obtain ⟨rfl, rfl⟩ := so_e2 hf
  exact jr_aret rfl (Or.inl ⟨_, rfl⟩) jv_rr dX9_wrong_12

/- X9_number -/
abbrev kX9_number : jx_K := (cX9_number, 5, RX9, 5, (Option.some Jvm.ClassFile.FieldType.int), "number", [])
def LX9_number_33 (f0 : Nat) (f1 : Int32) (f2 : Int32) (k110 : Int32 → so_St → Option ((Int32 ⊕ Nat) × so_St)) : Nat → Int32 → so_St → Option ((Int32 ⊕ Nat) × so_St)
  | 0, _, _ => none
  | n + 1, v13, S14 =>
    if (so_I S14 f0 1) ≤ (so_I S14 f0 2) then
    (k110 v13 S14)
    else
    ((so_rk (so_R S14 f0 0) [51]).bind fun p16 =>
    so_gd (so_in (so_I S14 f0 2) (so_l S14 p16)) fun _ =>
    if (so_I S14 p16 (so_I S14 f0 2).toNatClampNeg) < (48 : Int32) then
    (k110 v13 S14)
    else
    ((so_rk (so_R S14 f0 0) [51]).bind fun p20 =>
    so_gd (so_in (so_I S14 f0 2) (so_l S14 p20)) fun _ =>
    if (57 : Int32) < (so_I S14 p20 (so_I S14 f0 2).toNatClampNeg) then
    (k110 v13 S14)
    else
    ((so_rk (so_R S14 f0 0) [51]).bind fun p24 =>
    so_gd (so_in (so_I S14 f0 2) (so_l S14 p24)) fun _ =>
    so_let (so_sI S14 f0 2 ((so_I S14 f0 2) + (1 : Int32))) fun S27 =>
    LX9_number_33 f0 f1 f2 k110 n (fJ12_min ((((10 : Int32) * v13) + (so_I S14 p24 (so_I S14 f0 2).toNatClampNeg)) - (48 : Int32)) (100000 : Int32)) S27)))
set_option maxHeartbeats 4000000 in
set_option maxRecDepth 100000 in
theorem wX9_number_33 {res : Int32 ⊕ Nat} {S' : so_St} {S0 : so_St}   (f0 : Nat) (f1 : Int32) (f2 : Int32)   (k_f0 : f0 % 64 ∈ [2, 5, 13, 19]) (k110 : Int32 → so_St → Option ((Int32 ⊕ Nat) × so_St)) (h110 : ∀ (v28 : Int32) (S29 : so_St), k110 v28 S29 = some (res, S') → jg_ (S0, S', so_oi res) kX9_number 110 [(0, .ref f0), (1, .int f1), (2, .int f2), (4, .int v28)] [] S29) : ∀ (n : Nat) (v13 : Int32) (S14 : so_St), LX9_number_33 f0 f1 f2 k110 n v13 S14 = some (res, S') → jg_ (S0, S', so_oi res) kX9_number 33 [(0, .ref f0), (1, .int f1), (2, .int f2), (4, .int v13)] [] S14 := by
  intro n
  induction n with
  | zero =>
    intro v13 S14 hf
    exact so_no hf
  | succ n ih =>
    intro v13 S14 hf
    rw [LX9_number_33] at hf
    refine jr_aload_n dX9_number_33 rfl rfl jv_rr ?_
    refine jr_getI fl_X9_19_2_5_13_19 k_f0 (so_n26 rfl) dX9_number_34 ?_
    refine jr_aload_n dX9_number_37 rfl rfl jv_rr ?_
    refine jr_getI fl_X9_15_2_5_13_19 k_f0 (so_n26 rfl) dX9_number_38 ?_
    refine jr_icmp_ge (tgt := 110) dX9_number_41 rfl (fun c15 => ?_) (fun c15 => ?_)
    · have hf := so_t c15 hf
      exact h110 v13 S14 hf
    · have hf := so_f c15 hf
      refine jr_aload_n dX9_number_44 rfl rfl jv_rr ?_
      refine jr_getR fl_X9_9_2_5_13_19 k_f0 (so_n26 rfl) dX9_number_45 ?_
      obtain ⟨p16, h17, hf⟩ := so_b hf
      obtain ⟨h17, k_p16⟩ := so_rk_s h17
      refine jr_rf h17 ?_
      refine jr_aload_n dX9_number_48 rfl rfl jv_rr ?_
      refine jr_getI fl_X9_19_2_5_13_19 k_f0 (so_n26 rfl) dX9_number_49 ?_
      obtain ⟨g18, hf⟩ := so_gdE hf
      refine jr_baload (so_m1 k_p16) (so_inE g18) dX9_number_52 ?_
      refine jr_bipush dX9_number_53 bp_48 ?_
      refine jr_icmp_lt (tgt := 110) dX9_number_55 rfl (fun c19 => ?_) (fun c19 => ?_)
      · have hf := so_t c19 hf
        exact h110 v13 S14 hf
      · have hf := so_f c19 hf
        refine jr_aload_n dX9_number_58 rfl rfl jv_rr ?_
        refine jr_getR fl_X9_9_2_5_13_19 k_f0 (so_n26 rfl) dX9_number_59 ?_
        obtain ⟨p20, h21, hf⟩ := so_b hf
        obtain ⟨h21, k_p20⟩ := so_rk_s h21
        refine jr_rf h21 ?_
        refine jr_aload_n dX9_number_62 rfl rfl jv_rr ?_
        refine jr_getI fl_X9_19_2_5_13_19 k_f0 (so_n26 rfl) dX9_number_63 ?_
        obtain ⟨g22, hf⟩ := so_gdE hf
        refine jr_baload (so_m1 k_p20) (so_inE g22) dX9_number_66 ?_
        refine jr_bipush dX9_number_67 bp_57 ?_
        refine jr_icmp_gt (tgt := 110) dX9_number_69 rfl (fun c23 => ?_) (fun c23 => ?_)
        · have hf := so_t c23 hf
          exact h110 v13 S14 hf
        · have hf := so_f c23 hf
          refine jr_bipush dX9_number_72 bp_10 ?_
          refine jr_iload dX9_number_74 rfl ?_
          refine jr_imul dX9_number_76 ?_
          refine jr_aload_n dX9_number_77 rfl rfl jv_rr ?_
          refine jr_getR fl_X9_9_2_5_13_19 k_f0 (so_n26 rfl) dX9_number_78 ?_
          obtain ⟨p24, h25, hf⟩ := so_b hf
          obtain ⟨h25, k_p24⟩ := so_rk_s h25
          refine jr_rf h25 ?_
          refine jr_aload_n dX9_number_81 rfl rfl jv_rr ?_
          refine jr_getI fl_X9_19_2_5_13_19 k_f0 (so_n26 rfl) dX9_number_82 ?_
          obtain ⟨g26, hf⟩ := so_gdE hf
          refine jr_baload (so_m1 k_p24) (so_inE g26) dX9_number_85 ?_
          refine jr_iadd dX9_number_86 ?_
          refine jr_bipush dX9_number_87 bp_48 ?_
          refine jr_isub dX9_number_89 ?_
          refine jr_ldcI q1110 dX9_number_90 ?_
          refine jr_call (st := []) lk_X9_56 (wJ12_min ((((10 : Int32) * v13) + (so_I S14 p24 (so_I S14 f0 2).toNatClampNeg)) - (48 : Int32)) (100000 : Int32) S14 rfl) jk_r0 rfl rfl (so_le rfl) (so_le rfl) dX9_number_92 ?_
          refine jr_istore (lv' := [(0, .ref f0), (1, .int f1), (2, .int f2), (4, .int (fJ12_min ((((10 : Int32) * v13) + (so_I S14 p24 (so_I S14 f0 2).toNatClampNeg)) - (48 : Int32)) (100000 : Int32)))]) dX9_number_95 (so_le rfl) rfl ?_
          refine jr_aload_n dX9_number_97 rfl rfl jv_rr ?_
          refine jr_dup dX9_number_98 rfl ?_
          refine jr_getI fl_X9_19_2_5_13_19 k_f0 (so_n26 rfl) dX9_number_99 ?_
          refine jr_iconst dX9_number_102 ic_1 ?_
          refine jr_iadd dX9_number_103 ?_
          refine jr_putI fp_X9_19_2_5_13_19 k_f0 (so_n26 rfl) (fun h => by cases h) rfl rfl dX9_number_104 ?_
          refine so_let_e hf (fun S27 hf => ?_)
          refine jr_goto (tgt := 33) dX9_number_107 rfl ?_
          exact ih (fJ12_min ((((10 : Int32) * v13) + (so_I S14 p24 (so_I S14 f0 2).toNatClampNeg)) - (48 : Int32)) (100000 : Int32)) S27 hf
def fX9_number (a0 : Nat) (a1 : Int32) (a2 : Int32) (S : so_St) : Option ((Int32 ⊕ Nat) × so_St) :=
  so_b2 (fX9_sign a0 S) fun r2 S3 =>
  so_j (κ := Unit → Option ((Int32 ⊕ Nat) × so_St)) (ρ := Option ((Int32 ⊕ Nat) × so_St)) (fun (_u : Unit) =>
  so_b2 (fX9_wrong a0 S3) fun r6 S7 =>
  so_gd (decide (r6 % 64 ∈ [3])) fun _ =>
  some (.inr r6, S7))
  (fun J4 =>
  if r2 < (48 : Int32) then
  (J4 ())
  else
  (if r2 ≤ (57 : Int32) then
  (so_let (so_sI S3 a0 3 (so_I S3 a0 2)) fun S12 =>
  LX9_number_33 a0 a1 a2 (fun (v30 : Int32) (S31 : so_St) =>
  so_j (κ := Unit → Option ((Int32 ⊕ Nat) × so_St)) (ρ := Option ((Int32 ⊕ Nat) × so_St)) (fun (_u : Unit) =>
  so_let (so_new S31 3 0 8) fun S33 =>
  (fX11_init (so_at S31 3) (2 : Int32) (so_I S33 a0 3) S33).bind fun S36 =>
  some (.inr (so_at S31 3), S36))
  (fun J32 =>
  if v30 < a1 then
  (J32 ())
  else
  (if v30 ≤ a2 then
  (some (.inl v30, S31))
  else
  (J32 ())))) so_N (0 : Int32) S12)
  else
  (J4 ())))
set_option maxHeartbeats 4000000 in
set_option maxRecDepth 100000 in
theorem wX9_number {res : Int32 ⊕ Nat} {S' : so_St}  (a0 : Nat) (a1 : Int32) (a2 : Int32)  (S : so_St) (k_a0 : a0 % 64 ∈ [2, 5, 13, 19]) (hf : fX9_number a0 a1 a2 S = some (res, S')) : jx_Sp 5 yX9_number (ws_ yX9_number cX9_number 5 (Option.some Jvm.ClassFile.FieldType.int)) [.ref a0, .int a1, .int a2] S (so_oi res) S' := by
  refine jx_of (plainFor_of_name (by decide)) (so_le rfl) ?_
  show jg_ (S, S', so_oi res) kX9_number 0 [(0, .ref a0), (1, .int a1), (2, .int a2)] [] S
  unfold fX9_number at hf
  refine jr_aload_n dX9_number_0 rfl rfl jv_rr ?_
  obtain ⟨r2, S3, h1, hf⟩ := so_b2E hf
  refine jr_callM (st := []) lk_X9_22_2_5_13_19 (wX9_sign a0 S k_a0 h1) k_a0 rfl rfl rfl (so_le rfl) (so_le rfl) dX9_number_1 ?_
  refine jr_istore_n (lv' := [(0, .ref a0), (1, .int a1), (2, .int a2), (3, .int r2)]) dX9_number_4 rfl (so_le rfl) rfl ?_
  refine jr_iload_n dX9_number_5 rfl rfl ?_
  refine jr_bipush dX9_number_6 bp_48 ?_
  refine so_jE hf (fun J => ∀ (u0 : Unit), J u0 = some (res, S') → jg_ (S, S', so_oi res) kX9_number 17 [(0, .ref a0)] [] S3) (fun _u hf => ?_) (fun J4 hJ4 hf => ?_)
  · refine jr_aload_n dX9_number_17 rfl rfl jv_rr ?_
    obtain ⟨r6, S7, h5, hf⟩ := so_b2E hf
    obtain ⟨g8, hf⟩ := so_gdE hf
    refine jr_callM (st := []) lk_X9_45_2_5_13_19 (wX9_wrong a0 S3 k_a0 h5) k_a0 rfl rfl rfl (so_le rfl) (so_le rfl) dX9_number_18 ?_
    obtain ⟨rfl, rfl⟩ := so_e2 hf
    exact jr_athrow (so_n63 (of_decide_eq_true g8) rfl) dX9_number_21 (jr_out (so_l29 (of_decide_eq_true g8) rfl).1 (so_l29 (of_decide_eq_true g8) rfl).2 rfl)
  · refine jr_icmp_lt (tgt := 17) dX9_number_8 rfl (fun c10 => ?_) (fun c10 => ?_)
    · have hf := so_t c10 hf
      refine jr_sub [0] rfl ?_
      exact hJ4 () hf
    · have hf := so_f c10 hf
      refine jr_iload_n dX9_number_11 rfl rfl ?_
      refine jr_bipush dX9_number_12 bp_57 ?_
      refine jr_icmp_le (tgt := 22) dX9_number_14 rfl (fun c11 => ?_) (fun c11 => ?_)
      · have hf := so_t c11 hf
        refine jr_aload_n dX9_number_22 rfl rfl jv_rr ?_
        refine jr_aload_n dX9_number_23 rfl rfl jv_rr ?_
        refine jr_getI fl_X9_19_2_5_13_19 k_a0 (so_n26 rfl) dX9_number_24 ?_
        refine jr_putI fp_X9_52_2_5_13_19 k_a0 (so_n26 rfl) (fun h => by cases h) rfl rfl dX9_number_27 ?_
        refine so_let_e hf (fun S12 hf => ?_)
        refine jr_iconst dX9_number_30 ic_0 ?_
        refine jr_istore (lv' := [(0, .ref a0), (1, .int a1), (2, .int a2), (3, .int r2), (4, .int (0 : Int32))]) dX9_number_31 (so_le rfl) rfl ?_
        refine jr_sub [0, 1, 2, 4] rfl ?_
        refine wX9_number_33 a0 a1 a2 k_a0 _ (fun v30 S31 hf => ?_) so_N (0 : Int32) S12 hf
        refine jr_iload dX9_number_110 rfl ?_
        refine jr_iload_n dX9_number_112 rfl rfl ?_
        refine so_jE hf (fun J => ∀ (u0 : Unit), J u0 = some (res, S') → jg_ (S, S', so_oi res) kX9_number 122 [(0, .ref a0)] [] S31) (fun _u hf => ?_) (fun J32 hJ32 hf => ?_)
        · refine jr_new nw_X9_40 dX9_number_122 ?_
          refine so_let_e hf (fun S33 hf => ?_)
          refine jr_dup dX9_number_125 rfl ?_
          refine jr_iconst dX9_number_126 ic_2 ?_
          refine jr_aload_n dX9_number_127 rfl rfl jv_rr ?_
          refine jr_getI fl_X9_52_2_5_13_19 k_a0 (so_n26 rfl) dX9_number_128 ?_
          obtain ⟨S36, h34, hf⟩ := so_b hf
          refine jr_call (st := [.ref (so_at S31 3)]) lk_X9_42 (wX11_init (so_at S31 3) (2 : Int32) (so_I S33 a0 3) S33 (so_atk rfl) h34) (jk_r1 (so_n63 (so_atk rfl) rfl)) rfl rfl (so_le rfl) (so_le rfl) dX9_number_131 ?_
          obtain ⟨rfl, rfl⟩ := so_e2 hf
          exact jr_athrow (so_n63 (so_atk rfl) rfl) dX9_number_134 (jr_out (so_l29 (so_atk rfl) rfl).1 (so_l29 (so_atk rfl) rfl).2 rfl)
        · refine jr_icmp_lt (tgt := 122) dX9_number_113 rfl (fun c38 => ?_) (fun c38 => ?_)
          · have hf := so_t c38 hf
            refine jr_sub [0] rfl ?_
            exact hJ32 () hf
          · have hf := so_f c38 hf
            refine jr_iload dX9_number_116 rfl ?_
            refine jr_iload_n dX9_number_118 rfl rfl ?_
            refine jr_icmp_le (tgt := 135) dX9_number_119 rfl (fun c39 => ?_) (fun c39 => ?_)
            · have hf := so_t c39 hf
              refine jr_iload dX9_number_135 rfl ?_
              obtain ⟨rfl, rfl⟩ := so_e2 hf
              exact jr_iret rfl rfl dX9_number_137
            · have hf := so_f c39 hf
              refine jr_sub [0] rfl ?_
              exact hJ32 () hf
      · have hf := so_f c11 hf
        refine jr_sub [0] rfl ?_
        exact hJ4 () hf
