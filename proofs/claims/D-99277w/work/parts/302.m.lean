/-! printed: functions and walks -/
set_option maxRecDepth 100000
set_option linter.unusedVariables false
/- X10_house -/
abbrev kX10_house : jx_K := (cX10_house, 1, RX10, 6, (Option.some Jvm.ClassFile.FieldType.int), "house", [])
def fX10_house (a0 : Nat) (S : so_St) : Option ((Int32 ⊕ Nat) × so_St) :=
  (so_rk (so_R S a0 5) [1]).bind fun p1 =>
  so_b3 (fX9_number a0 (0 : Int32) ((so_I S p1 6) - (1 : Int32)) S) (fun r3 S4 =>
  some (.inl r3, S4))
  (fun x5 S6 =>
  so_gd (decide (x5 % 64 ∈ [3])) fun _ =>
  some (.inr x5, S6))
set_option maxHeartbeats 4000000 in
set_option maxRecDepth 100000 in
theorem wX10_house {res : Int32 ⊕ Nat} {S' : so_St}  (a0 : Nat)  (S : so_St) (k_a0 : a0 % 64 ∈ [2]) (hf : fX10_house a0 S = some (res, S')) : jx_Sp 6 yX10_house (ws_ yX10_house cX10_house 1 (Option.some Jvm.ClassFile.FieldType.int)) [.ref a0] S (so_oi res) S' := by
  refine jx_of (plainFor_of_name (by decide)) (so_le rfl) ?_
  show jg_ (S, S', so_oi res) kX10_house 0 [(0, .ref a0)] [] S
  unfold fX10_house at hf
  refine jr_aload_n dX10_house_0 rfl rfl jv_rr ?_
  refine jr_iconst dX10_house_1 ic_0 ?_
  refine jr_aload_n dX10_house_2 rfl rfl jv_rr ?_
  refine jr_getR fl_X10_14_2 k_a0 (so_n26 rfl) dX10_house_3 ?_
  obtain ⟨p1, h2, hf⟩ := so_b hf
  obtain ⟨h2, k_p1⟩ := so_rk_s h2
  refine jr_rf h2 ?_
  refine jr_getI fl_X10_65_1 k_p1 (so_n26 rfl) dX10_house_6 ?_
  refine jr_iconst dX10_house_9 ic_1 ?_
  refine jr_isub dX10_house_10 ?_
  rcases so_b3E hf with ⟨r3, S4, h7, hf⟩ | ⟨x5, S6, h7, hf⟩
  · refine jr_callM (st := []) lk_X10_79_2 (wX9_number a0 (0 : Int32) ((so_I S p1 6) - (1 : Int32)) S (so_ms k_a0 rfl) h7) k_a0 rfl rfl rfl (so_le rfl) (so_le rfl) dX10_house_11 ?_
    obtain ⟨rfl, rfl⟩ := so_e2 hf
    exact jr_iret rfl rfl dX10_house_14
  · refine jr_callMX (st := []) lk_X10_79_2 (wX9_number a0 (0 : Int32) ((so_I S p1 6) - (1 : Int32)) S (so_ms k_a0 rfl) h7) k_a0 rfl rfl rfl (so_le rfl) (so_le rfl) dX10_house_11 ?_
    obtain ⟨g8, hf⟩ := so_gdE hf
    obtain ⟨rfl, rfl⟩ := so_e2 hf
    exact jr_out (so_l29 (of_decide_eq_true g8) rfl).1 (so_l29 (of_decide_eq_true g8) rfl).2 rfl

/- X10_thing -/
abbrev kX10_thing : jx_K := (cX10_thing, 1, RX10, 6, (Option.some Jvm.ClassFile.FieldType.int), "thing", [])
def fX10_thing (a0 : Nat) (S : so_St) : Option ((Int32 ⊕ Nat) × so_St) :=
  so_b3 (fX9_number a0 (0 : Int32) (9 : Int32) S) (fun r1 S2 =>
  some (.inl r1, S2))
  (fun x3 S4 =>
  so_gd (decide (x3 % 64 ∈ [3])) fun _ =>
  some (.inr x3, S4))
set_option maxHeartbeats 4000000 in
set_option maxRecDepth 100000 in
theorem wX10_thing {res : Int32 ⊕ Nat} {S' : so_St}  (a0 : Nat)  (S : so_St) (k_a0 : a0 % 64 ∈ [2]) (hf : fX10_thing a0 S = some (res, S')) : jx_Sp 6 yX10_thing (ws_ yX10_thing cX10_thing 1 (Option.some Jvm.ClassFile.FieldType.int)) [.ref a0] S (so_oi res) S' := by
  refine jx_of (plainFor_of_name (by decide)) (so_le rfl) ?_
  show jg_ (S, S', so_oi res) kX10_thing 0 [(0, .ref a0)] [] S
  unfold fX10_thing at hf
  refine jr_aload_n dX10_thing_0 rfl rfl jv_rr ?_
  refine jr_iconst dX10_thing_1 ic_0 ?_
  refine jr_bipush dX10_thing_2 bp_9 ?_
  rcases so_b3E hf with ⟨r1, S2, h5, hf⟩ | ⟨x3, S4, h5, hf⟩
  · refine jr_callM (st := []) lk_X10_79_2 (wX9_number a0 (0 : Int32) (9 : Int32) S (so_ms k_a0 rfl) h5) k_a0 rfl rfl rfl (so_le rfl) (so_le rfl) dX10_thing_4 ?_
    obtain ⟨rfl, rfl⟩ := so_e2 hf
    exact jr_iret rfl rfl dX10_thing_7
  · refine jr_callMX (st := []) lk_X10_79_2 (wX9_number a0 (0 : Int32) (9 : Int32) S (so_ms k_a0 rfl) h5) k_a0 rfl rfl rfl (so_le rfl) (so_le rfl) dX10_thing_4 ?_
    obtain ⟨g6, hf⟩ := so_gdE hf
    obtain ⟨rfl, rfl⟩ := so_e2 hf
    exact jr_out (so_l29 (of_decide_eq_true g6) rfl).1 (so_l29 (of_decide_eq_true g6) rfl).2 rfl

/- X12_init -/
abbrev kX12_init : jx_K := (cX12_init, 3, RX12, 1, (Option.none : Option Jvm.ClassFile.FieldType), "<init>", [])
def fX12_init (a0 : Nat) (a1 : Int32) (a2 : Int32) (S : so_St) : Option so_St :=
  so_let (so_sI S a0 0 a1) fun S1 =>
  so_let (so_sI S1 a0 1 a2) fun S2 =>
  some S2
set_option maxHeartbeats 4000000 in
set_option maxRecDepth 100000 in
theorem wX12_init {S' : so_St}  (a0 : Nat) (a1 : Int32) (a2 : Int32)  (S : so_St) (k_a0 : a0 % 64 ∈ [4]) (hf : fX12_init a0 a1 a2 S = some S') : jx_Sp 1 yX12_init (ws_ yX12_init cX12_init 3 (Option.none : Option Jvm.ClassFile.FieldType)) [.ref a0, .int a1, .int a2] S (.inl none) S' := by
  refine jx_of (plainFor_of_name (by decide)) (so_le rfl) ?_
  show jg_ (S, S', .inl none) kX12_init 0 [(0, .ref a0), (1, .int a1), (2, .int a2)] [] S
  unfold fX12_init at hf
  refine jr_aload_n dX12_init_0 rfl rfl jv_rr ?_
  refine jr_objInit (so_n63 k_a0 rfl) q1125 q155 q156 (so_le rfl) (so_le rfl) dX12_init_1 ?_
  refine jr_aload_n dX12_init_4 rfl rfl jv_rr ?_
  refine jr_iload_n dX12_init_5 rfl rfl ?_
  refine jr_putI fp_X12_7_4 k_a0 (so_n26 rfl) (fun _ => rfl) rfl rfl dX12_init_6 ?_
  refine so_let_e hf (fun S1 hf => ?_)
  refine jr_aload_n dX12_init_9 rfl rfl jv_rr ?_
  refine jr_iload_n dX12_init_10 rfl rfl ?_
  refine jr_putI fp_X12_13_4 k_a0 (so_n26 rfl) (fun _ => rfl) rfl rfl dX12_init_11 ?_
  refine so_let_e hf (fun S2 hf => ?_)
  obtain rfl := so_e1 hf
  exact jr_vret rfl dX12_init_14

/- J12_max -/
abbrev kJ12_max : jx_K := (cJ12_max, 2, RJ12, 0, (Option.some Jvm.ClassFile.FieldType.int), "max", [])
def fJ12_max (a0 : Int32) (a1 : Int32) : Int32 :=
  if a0 < a1 then
  (a1)
  else
  (a0)
set_option maxHeartbeats 4000000 in
set_option maxRecDepth 100000 in
theorem wJ12_max {res : Int32}  (a0 : Int32) (a1 : Int32)  (S : so_St)  (hf : fJ12_max a0 a1 = res) : jx_Sp 0 yJ12_max (ws_ yJ12_max cJ12_max 2 (Option.some Jvm.ClassFile.FieldType.int)) [.int a0, .int a1] S (.inl (some (.int res))) S := by
  refine jx_of (by decide +kernel) (so_le rfl) ?_
  show jg_ (S, S, .inl (some (.int res))) kJ12_max 0 [(0, .int a0), (1, .int a1)] [] S
  unfold fJ12_max at hf
  refine jr_iload_n dJ12_max_0 rfl rfl ?_
  refine jr_iload_n dJ12_max_1 rfl rfl ?_
  refine jr_icmp_lt (tgt := 9) dJ12_max_2 rfl (fun c1 => ?_) (fun c1 => ?_)
  · have hf := so_t c1 hf
    refine jr_iload_n dJ12_max_9 rfl rfl ?_
    obtain rfl := hf
    exact jr_iret rfl rfl dJ12_max_10
  · have hf := so_f c1 hf
    refine jr_iload_n dJ12_max_5 rfl rfl ?_
    refine jr_goto (tgt := 10) dJ12_max_6 rfl ?_
    obtain rfl := hf
    exact jr_iret rfl rfl dJ12_max_10

/- J11_newLength -/
abbrev kJ11_newLength : jx_K := (cJ11_newLength, 4, RJ11, 1, (Option.some Jvm.ClassFile.FieldType.int), "newLength", [])
def fJ11_newLength (a0 : Int32) (a1 : Int32) (a2 : Int32) (S : so_St) : Option Int32 :=
  if (a0 + (fJ12_max a1 a2)) ≤ (0 : Int32) then
  (none)
  else
  (if (2147483639 : Int32) < (a0 + (fJ12_max a1 a2)) then
  (none)
  else
  (some (a0 + (fJ12_max a1 a2))))
set_option maxHeartbeats 4000000 in
set_option maxRecDepth 100000 in
theorem wJ11_newLength {res : Int32}  (a0 : Int32) (a1 : Int32) (a2 : Int32)  (S : so_St)  (hf : fJ11_newLength a0 a1 a2 S = some res) : jx_Sp 1 yJ11_newLength (ws_ yJ11_newLength cJ11_newLength 4 (Option.some Jvm.ClassFile.FieldType.int)) [.int a0, .int a1, .int a2] S (.inl (some (.int res))) S := by
  refine jx_of (plainFor_of_name (by decide)) (so_le rfl) ?_
  show jg_ (S, S, .inl (some (.int res))) kJ11_newLength 0 [(0, .int a0), (1, .int a1), (2, .int a2)] [] S
  unfold fJ11_newLength at hf
  refine jr_iload_n dJ11_newLength_0 rfl rfl ?_
  refine jr_iload_n dJ11_newLength_1 rfl rfl ?_
  refine jr_iload_n dJ11_newLength_2 rfl rfl ?_
  refine jr_call (st := [.int a0]) lk_J11_194 (wJ12_max a1 a2 S rfl) jk_r0 rfl rfl (so_le rfl) (so_le rfl) dJ11_newLength_3 ?_
  refine jr_iadd dJ11_newLength_6 ?_
  refine jr_istore_n (lv' := [(0, .int a0), (1, .int a1), (2, .int a2), (3, .int (a0 + (fJ12_max a1 a2)))]) dJ11_newLength_7 rfl (so_le rfl) rfl ?_
  refine jr_iconst dJ11_newLength_8 ic_0 ?_
  refine jr_iload_n dJ11_newLength_9 rfl rfl ?_
  refine jr_icmp_ge (tgt := 21) dJ11_newLength_10 rfl (fun c1 => ?_) (fun c1 => ?_)
  · have hf := so_t c1 hf
    refine jr_iload_n dJ11_newLength_21 rfl rfl ?_
    refine jr_iload_n dJ11_newLength_22 rfl rfl ?_
    exact so_no hf
  · have hf := so_f c1 hf
    refine jr_iload_n dJ11_newLength_13 rfl rfl ?_
    refine jr_ldcI q279 dJ11_newLength_14 ?_
    refine jr_icmp_gt (tgt := 21) dJ11_newLength_16 rfl (fun c2 => ?_) (fun c2 => ?_)
    · have hf := so_t c2 hf
      refine jr_iload_n dJ11_newLength_21 rfl rfl ?_
      refine jr_iload_n dJ11_newLength_22 rfl rfl ?_
      exact so_no hf
    · have hf := so_f c2 hf
      refine jr_iload_n dJ11_newLength_19 rfl rfl ?_
      obtain rfl := so_e1 hf
      exact jr_iret rfl rfl dJ11_newLength_20

/- J13_copyOf_3 -/
abbrev kJ13_copyOf_3 : jx_K := (cJ13_copyOf_3, 4, RJ13, 1, (Option.some (Jvm.ClassFile.FieldType.array (Jvm.ClassFile.FieldType.object "java/lang/Object"))), "copyOf", [])
def fJ13_copyOf_3 (a0 : Nat) (a1 : Int32) (a2 : Nat) (S : so_St) : Option (Nat × so_St) :=
  so_gd (decide (a2 = 2751)) fun _ =>
  so_gd (so_len a1) fun _ =>
  so_let (so_new S 55 a1.toNatClampNeg a1.toNatClampNeg) fun S3 =>
  so_gd (so_cp (0 : Int32) (0 : Int32) (fJ12_min (Int32.ofNat (so_l S3 a0)) a1) (so_l S3 a0) (so_l S3 (so_at S 55))) fun _ =>
  so_gd (so_kdb S3 a0 (0 : Int32).toNatClampNeg (fJ12_min (Int32.ofNat (so_l S3 a0)) a1).toNatClampNeg [4, 14, 15, 16, 17, 18]) fun _ =>
  so_let (so_cpR S3 a0 (so_at S 55) (0 : Int32).toNatClampNeg (0 : Int32).toNatClampNeg (fJ12_min (Int32.ofNat (so_l S3 a0)) a1).toNatClampNeg) fun S6 =>
  some ((so_at S 55), S6)
set_option maxHeartbeats 4000000 in
set_option maxRecDepth 100000 in
theorem wJ13_copyOf_3 {res : Nat} {S' : so_St}  (a0 : Nat) (a1 : Int32) (a2 : Nat)  (S : so_St) (k_a0 : a0 % 64 ∈ [55]) (k_a2 : a2 % 64 ∈ [63]) (hf : fJ13_copyOf_3 a0 a1 a2 S = some (res, S')) : jx_Sp 1 yJ13_copyOf_3 (ws_ yJ13_copyOf_3 cJ13_copyOf_3 4 (Option.some (Jvm.ClassFile.FieldType.array (Jvm.ClassFile.FieldType.object "java/lang/Object")))) [.ref a0, .int a1, .ref a2] S (.inl (some (.ref res))) S' := by
  refine jx_of (plainFor_of_name (by decide)) (so_le rfl) ?_
  show jg_ (S, S', .inl (some (.ref res))) kJ13_copyOf_3 0 [(0, .ref a0), (1, .int a1), (2, .ref a2)] [] S
  unfold fJ13_copyOf_3 at hf
  refine jr_aload_n dJ13_copyOf_3_0 rfl rfl jv_rr ?_
  refine jr_ldcM q1196 dJ13_copyOf_3_1 ?_
  obtain ⟨g1, hf⟩ := so_gdE hf
  refine jr_acmpM2 (tgt := 13) (of_decide_eq_true g1) rfl dJ13_copyOf_3_3 rfl ?_
  refine jr_iload_n dJ13_copyOf_3_6 rfl rfl ?_
  obtain ⟨g2, hf⟩ := so_gdE hf
  refine jr_newO q1197 (so_lenE g2).1 (so_lenE g2).2 dJ13_copyOf_3_7 ?_
  refine so_let_e hf (fun S3 hf => ?_)
  refine jr_goto (tgt := 24) dJ13_copyOf_3_10 rfl ?_
  refine jr_astore_n (lv' := [(0, .ref a0), (1, .int a1), (2, .ref a2), (3, .ref (so_at S 55))]) dJ13_copyOf_3_24 rfl (so_le rfl) jv_rr rfl ?_
  refine jr_aload_n dJ13_copyOf_3_25 rfl rfl jv_rr ?_
  refine jr_iconst dJ13_copyOf_3_26 ic_0 ?_
  refine jr_aload_n dJ13_copyOf_3_27 rfl rfl jv_rr ?_
  refine jr_iconst dJ13_copyOf_3_28 ic_0 ?_
  refine jr_aload_n dJ13_copyOf_3_29 rfl rfl jv_rr ?_
  refine jr_alen (so_ms k_a0 rfl) dJ13_copyOf_3_30 ?_
  refine jr_iload_n dJ13_copyOf_3_31 rfl rfl ?_
  refine jr_call (st := [.int (0 : Int32), .ref (so_at S 55), .int (0 : Int32), .ref a0]) lk_J13_304 (wJ12_min (Int32.ofNat (so_l S3 a0)) a1 S3 rfl) jk_r0 rfl rfl (so_le rfl) (so_le rfl) dJ13_copyOf_3_32 ?_
  obtain ⟨g4, hf⟩ := so_gdE hf
  obtain ⟨g5, hf⟩ := so_gdE hf
  refine jr_copyR cao_4_14_15_16_17_18 (so_n26' rfl) (so_kdbE g5) q297 q299 q298 q115 (so_m1 k_a0) (so_m1 (so_atk rfl)) (so_cpE g4).1 (so_cpE g4).2.1 (so_cpE g4).2.2.1 (so_cpE g4).2.2.2.1 (so_cpE g4).2.2.2.2 (so_le rfl) (so_le rfl) dJ13_copyOf_3_35 ?_
  refine so_let_e hf (fun S6 hf => ?_)
  refine jr_aload_n dJ13_copyOf_3_38 rfl rfl jv_rr ?_
  obtain ⟨rfl, rfl⟩ := so_e2 hf
  exact jr_aret rfl (Or.inr ⟨_, rfl⟩) jv_rr dJ13_copyOf_3_39

/- J13_copyOf_2 -/
abbrev kJ13_copyOf_2 : jx_K := (cJ13_copyOf_2, 2, RJ13, 2, (Option.some (Jvm.ClassFile.FieldType.array (Jvm.ClassFile.FieldType.object "java/lang/Object"))), "copyOf", [])
def fJ13_copyOf_2 (a0 : Nat) (a1 : Int32) (S : so_St) : Option (Nat × so_St) :=
  so_b2 (fJ13_copyOf_3 a0 a1 2751 S) fun r2 S3 =>
  so_gd (decide (r2 % 64 ∈ [55])) fun _ =>
  some (r2, S3)
set_option maxHeartbeats 4000000 in
set_option maxRecDepth 100000 in
theorem wJ13_copyOf_2 {res : Nat} {S' : so_St}  (a0 : Nat) (a1 : Int32)  (S : so_St) (k_a0 : a0 % 64 ∈ [55]) (hf : fJ13_copyOf_2 a0 a1 S = some (res, S')) : jx_Sp 2 yJ13_copyOf_2 (ws_ yJ13_copyOf_2 cJ13_copyOf_2 2 (Option.some (Jvm.ClassFile.FieldType.array (Jvm.ClassFile.FieldType.object "java/lang/Object")))) [.ref a0, .int a1] S (.inl (some (.ref res))) S' := by
  refine jx_of (plainFor_of_name (by decide)) (so_le rfl) ?_
  show jg_ (S, S', .inl (some (.ref res))) kJ13_copyOf_2 0 [(0, .ref a0), (1, .int a1)] [] S
  unfold fJ13_copyOf_2 at hf
  refine jr_aload_n dJ13_copyOf_2_0 rfl rfl jv_rr ?_
  refine jr_iload_n dJ13_copyOf_2_1 rfl rfl ?_
  refine jr_aload_n dJ13_copyOf_2_2 rfl rfl jv_rr ?_
  refine jr_getC (so_m1 k_a0) q1159 q2596 q1160 q1192 (so_le rfl) (so_le rfl) dJ13_copyOf_2_3 ?_
  obtain ⟨r2, S3, h1, hf⟩ := so_b2E hf
  obtain ⟨g4, hf⟩ := so_gdE hf
  refine jr_call (st := []) lk_J13_300 (wJ13_copyOf_3 a0 a1 2751 S k_a0 (so_i1 rfl) h1) jk_r0 rfl rfl (so_le rfl) (so_le rfl) dJ13_copyOf_2_6 ?_
  obtain ⟨rfl, rfl⟩ := so_e2 hf
  exact jr_aret rfl (Or.inr ⟨_, rfl⟩) jv_rr dJ13_copyOf_2_9

/- J2_grow_2 -/
abbrev kJ2_grow_2 : jx_K := (cJ2_grow_2, 4, RJ2, 3, (Option.some (Jvm.ClassFile.FieldType.array (Jvm.ClassFile.FieldType.object "java/lang/Object"))), "grow", [])
def fJ2_grow_2 (a0 : Nat) (a1 : Int32) (S : so_St) : Option (Nat × so_St) :=
  (so_rk (so_R S a0 1) [55]).bind fun p1 =>
  if (0 : Int32) < (Int32.ofNat (so_l S p1)) then
  ((fJ11_newLength (Int32.ofNat (so_l S p1)) (a1 - (Int32.ofNat (so_l S p1))) ((Int32.ofNat (so_l S p1)) >>> ((1 : Int32) &&& 31)) S).bind fun r5 =>
  (so_rk (so_R S a0 1) [55]).bind fun p6 =>
  so_b2 (fJ13_copyOf_2 p6 r5 S) fun r9 S10 =>
  so_gd (decide (r9 % 64 ∈ [55])) fun _ =>
  so_let (so_sR S10 a0 1 (some r9)) fun S12 =>
  some (r9, S12))
  else
  ((so_rk (so_R S a0 1) [55]).bind fun p13 =>
  none)
set_option maxHeartbeats 4000000 in
set_option maxRecDepth 100000 in
theorem wJ2_grow_2 {res : Nat} {S' : so_St}  (a0 : Nat) (a1 : Int32)  (S : so_St) (k_a0 : a0 % 64 ∈ [24]) (hf : fJ2_grow_2 a0 a1 S = some (res, S')) : jx_Sp 3 yJ2_grow_2 (ws_ yJ2_grow_2 cJ2_grow_2 4 (Option.some (Jvm.ClassFile.FieldType.array (Jvm.ClassFile.FieldType.object "java/lang/Object")))) [.ref a0, .int a1] S (.inl (some (.ref res))) S' := by
  refine jx_of (plainFor_of_name (by decide)) (so_le rfl) ?_
  show jg_ (S, S', .inl (some (.ref res))) kJ2_grow_2 0 [(0, .ref a0), (1, .int a1)] [] S
  unfold fJ2_grow_2 at hf
  refine jr_aload_n dJ2_grow_2_0 rfl rfl jv_rr ?_
  refine jr_getR fl_J2_9_24 k_a0 (so_n26 rfl) dJ2_grow_2_1 ?_
  obtain ⟨p1, h2, hf⟩ := so_b hf
  obtain ⟨h2, k_p1⟩ := so_rk_s h2
  refine jr_rf h2 ?_
  refine jr_alen (so_ms k_p1 rfl) dJ2_grow_2_4 ?_
  refine jr_istore_n (lv' := [(0, .ref a0), (1, .int a1), (2, .int (Int32.ofNat (so_l S p1)))]) dJ2_grow_2_5 rfl (so_le rfl) rfl ?_
  refine jr_iload_n dJ2_grow_2_6 rfl rfl ?_
  refine jr_if_gt (tgt := 20) dJ2_grow_2_7 rfl (fun c3 => ?_) (fun c3 => ?_)
  · have hf := so_t c3 hf
    refine jr_iload_n dJ2_grow_2_20 rfl rfl ?_
    refine jr_iload_n dJ2_grow_2_21 rfl rfl ?_
    refine jr_iload_n dJ2_grow_2_22 rfl rfl ?_
    refine jr_isub dJ2_grow_2_23 ?_
    refine jr_iload_n dJ2_grow_2_24 rfl rfl ?_
    refine jr_iconst dJ2_grow_2_25 ic_1 ?_
    refine jr_ishr dJ2_grow_2_26 ?_
    obtain ⟨r5, h4, hf⟩ := so_b hf
    refine jr_call (st := []) lk_J2_73 (wJ11_newLength (Int32.ofNat (so_l S p1)) (a1 - (Int32.ofNat (so_l S p1))) ((Int32.ofNat (so_l S p1)) >>> ((1 : Int32) &&& 31)) S h4) jk_r0 rfl rfl (so_le rfl) (so_le rfl) dJ2_grow_2_27 ?_
    refine jr_istore_n (lv' := [(0, .ref a0), (1, .int a1), (2, .int (Int32.ofNat (so_l S p1))), (3, .int r5)]) dJ2_grow_2_30 rfl (so_le rfl) rfl ?_
    refine jr_aload_n dJ2_grow_2_31 rfl rfl jv_rr ?_
    refine jr_aload_n dJ2_grow_2_32 rfl rfl jv_rr ?_
    refine jr_getR fl_J2_9_24 k_a0 (so_n26 rfl) dJ2_grow_2_33 ?_
    obtain ⟨p6, h7, hf⟩ := so_b hf
    obtain ⟨h7, k_p6⟩ := so_rk_s h7
    refine jr_rf h7 ?_
    refine jr_iload_n dJ2_grow_2_36 rfl rfl ?_
    obtain ⟨r9, S10, h8, hf⟩ := so_b2E hf
    obtain ⟨g11, hf⟩ := so_gdE hf
    refine jr_call (st := [.ref a0]) lk_J2_66 (wJ13_copyOf_2 p6 r5 S k_p6 h8) jk_r0 rfl rfl (so_le rfl) (so_le rfl) dJ2_grow_2_37 ?_
    refine jr_dup_x1 dJ2_grow_2_40 rfl rfl ?_
    refine jr_putR (r := (some r9)) rfl fp_J2_9_24 k_a0 (so_n26 rfl) (fun h => by cases h) rfl dJ2_grow_2_41 ?_
    refine so_let_e hf (fun S12 hf => ?_)
    obtain ⟨rfl, rfl⟩ := so_e2 hf
    exact jr_aret rfl (Or.inr ⟨_, rfl⟩) jv_rr dJ2_grow_2_44
  · have hf := so_f c3 hf
    refine jr_aload_n dJ2_grow_2_10 rfl rfl jv_rr ?_
    refine jr_getR fl_J2_9_24 k_a0 (so_n26 rfl) dJ2_grow_2_11 ?_
    obtain ⟨p13, h14, hf⟩ := so_b hf
    obtain ⟨h14, k_p13⟩ := so_rk_s h14
    refine jr_rf h14 ?_
    exact so_no hf

/- J2_grow -/
abbrev kJ2_grow : jx_K := (cJ2_grow, 1, RJ2, 4, (Option.some (Jvm.ClassFile.FieldType.array (Jvm.ClassFile.FieldType.object "java/lang/Object"))), "grow", [])
def fJ2_grow (a0 : Nat) (S : so_St) : Option (Nat × so_St) :=
  so_b2 (fJ2_grow_2 a0 ((so_I S a0 2) + (1 : Int32)) S) fun r2 S3 =>
  so_gd (decide (r2 % 64 ∈ [55])) fun _ =>
  some (r2, S3)
set_option maxHeartbeats 4000000 in
set_option maxRecDepth 100000 in
theorem wJ2_grow {res : Nat} {S' : so_St}  (a0 : Nat)  (S : so_St) (k_a0 : a0 % 64 ∈ [24]) (hf : fJ2_grow a0 S = some (res, S')) : jx_Sp 4 yJ2_grow (ws_ yJ2_grow cJ2_grow 1 (Option.some (Jvm.ClassFile.FieldType.array (Jvm.ClassFile.FieldType.object "java/lang/Object")))) [.ref a0] S (.inl (some (.ref res))) S' := by
  refine jx_of (plainFor_of_name (by decide)) (so_le rfl) ?_
  show jg_ (S, S', .inl (some (.ref res))) kJ2_grow 0 [(0, .ref a0)] [] S
  unfold fJ2_grow at hf
  refine jr_aload_n dJ2_grow_0 rfl rfl jv_rr ?_
  refine jr_aload_n dJ2_grow_1 rfl rfl jv_rr ?_
  refine jr_getI fl_J2_48_24 k_a0 (so_n26 rfl) dJ2_grow_2 ?_
  refine jr_iconst dJ2_grow_5 ic_1 ?_
  refine jr_iadd dJ2_grow_6 ?_
  obtain ⟨r2, S3, h1, hf⟩ := so_b2E hf
  obtain ⟨g4, hf⟩ := so_gdE hf
  refine jr_callM (st := []) lk_J2_69_24 (wJ2_grow_2 a0 ((so_I S a0 2) + (1 : Int32)) S k_a0 h1) k_a0 rfl rfl rfl (so_le rfl) (so_le rfl) dJ2_grow_7 ?_
  obtain ⟨rfl, rfl⟩ := so_e2 hf
  exact jr_aret rfl (Or.inr ⟨_, rfl⟩) jv_rr dJ2_grow_10

/- J2_add_2 -/
abbrev kJ2_add_2 : jx_K := (cJ2_add_2, 4, RJ2, 5, (Option.none : Option Jvm.ClassFile.FieldType), "add", [])
def fJ2_add_2 (a0 : Nat) (a1 : Nat) (a2 : Nat) (a3 : Int32) (S : so_St) : Option so_St :=
  so_j (κ := Nat → so_St → Option so_St) (ρ := Option so_St) (fun (v1 : Nat) (S2 : so_St) =>
  so_gd (so_in a3 (so_l S2 v1)) fun _ =>
  so_let (so_sR S2 v1 a3.toNatClampNeg (some a1)) fun S5 =>
  so_let (so_sI S5 a0 2 (a3 + (1 : Int32))) fun S6 =>
  some S6)
  (fun J3 =>
  if a3 = (Int32.ofNat (so_l S a2)) then
  (so_b2 (fJ2_grow a0 S) fun r9 S10 =>
  so_gd (decide (r9 % 64 ∈ [55])) fun _ =>
  J3 r9 S10)
  else
  (J3 a2 S))
set_option maxHeartbeats 4000000 in
set_option maxRecDepth 100000 in
theorem wJ2_add_2 {S' : so_St}  (a0 : Nat) (a1 : Nat) (a2 : Nat) (a3 : Int32)  (S : so_St) (k_a0 : a0 % 64 ∈ [24]) (k_a1 : a1 % 64 ∈ [4, 14, 15, 16, 17, 18]) (k_a2 : a2 % 64 ∈ [55]) (hf : fJ2_add_2 a0 a1 a2 a3 S = some S') : jx_Sp 5 yJ2_add_2 (ws_ yJ2_add_2 cJ2_add_2 4 (Option.none : Option Jvm.ClassFile.FieldType)) [.ref a0, .ref a1, .ref a2, .int a3] S (.inl none) S' := by
  refine jx_of (plainFor_of_name (by decide)) (so_le rfl) ?_
  show jg_ (S, S', .inl none) kJ2_add_2 0 [(0, .ref a0), (1, .ref a1), (2, .ref a2), (3, .int a3)] [] S
  unfold fJ2_add_2 at hf
  refine jr_iload_n dJ2_add_2_0 rfl rfl ?_
  refine jr_aload_n dJ2_add_2_1 rfl rfl jv_rr ?_
  refine jr_alen (so_ms k_a2 rfl) dJ2_add_2_2 ?_
  refine so_jE hf (fun J => ∀ (v1 : Nat) (S2 : so_St), v1 % 64 ∈ [55] → J v1 S2 = some S' → jg_ (S, S', .inl none) kJ2_add_2 11 [(0, .ref a0), (1, .ref a1), (2, .ref v1), (3, .int a3)] [] S2) (fun v1 S2 k_v1 hf => ?_) (fun J3 hJ3 hf => ?_)
  · refine jr_aload_n dJ2_add_2_11 rfl rfl jv_rr ?_
    refine jr_iload_n dJ2_add_2_12 rfl rfl ?_
    refine jr_aload_n dJ2_add_2_13 rfl rfl jv_rr ?_
    obtain ⟨g4, hf⟩ := so_gdE hf
    refine jr_aastoreO cao_4_14_15_16_17_18 (so_m1 k_v1) k_a1 (so_n26' rfl) (so_inE g4) dJ2_add_2_14 ?_
    refine so_let_e hf (fun S5 hf => ?_)
    refine jr_aload_n dJ2_add_2_15 rfl rfl jv_rr ?_
    refine jr_iload_n dJ2_add_2_16 rfl rfl ?_
    refine jr_iconst dJ2_add_2_17 ic_1 ?_
    refine jr_iadd dJ2_add_2_18 ?_
    refine jr_putI fp_J2_48_24 k_a0 (so_n26 rfl) (fun h => by cases h) rfl rfl dJ2_add_2_19 ?_
    refine so_let_e hf (fun S6 hf => ?_)
    obtain rfl := so_e1 hf
    exact jr_vret rfl dJ2_add_2_22
  · refine jr_icmp_ne (tgt := 11) dJ2_add_2_3 rfl (fun c7 => ?_) (fun c7 => ?_)
    · have hf := so_f c7 hf
      exact hJ3 a2 S k_a2 hf
    · have hf := so_t c7 hf
      refine jr_aload_n dJ2_add_2_6 rfl rfl jv_rr ?_
      obtain ⟨r9, S10, h8, hf⟩ := so_b2E hf
      obtain ⟨g11, hf⟩ := so_gdE hf
      refine jr_callM (st := []) lk_J2_129_24 (wJ2_grow a0 S k_a0 h8) k_a0 rfl rfl rfl (so_le rfl) (so_le rfl) dJ2_add_2_7 ?_
      refine jr_astore_n (lv' := [(0, .ref a0), (1, .ref a1), (2, .ref r9), (3, .int a3)]) dJ2_add_2_10 rfl (so_le rfl) jv_rr rfl ?_
      exact hJ3 r9 S10 (of_decide_eq_true g11) hf

/- J2_add -/
abbrev kJ2_add : jx_K := (cJ2_add, 2, RJ2, 6, (Option.some Jvm.ClassFile.FieldType.boolean), "add", [])
def fJ2_add (a0 : Nat) (a1 : Nat) (S : so_St) : Option (Int32 × so_St) :=
  so_let (so_sI S a0 0 ((so_I S a0 0) + (1 : Int32))) fun S1 =>
  (so_rk (so_R S1 a0 1) [55]).bind fun p2 =>
  (fJ2_add_2 a0 a1 p2 (so_I S1 a0 2) S1).bind fun S6 =>
  some ((1 : Int32), S6)
set_option maxHeartbeats 4000000 in
set_option maxRecDepth 100000 in
theorem wJ2_add {res : Int32} {S' : so_St}  (a0 : Nat) (a1 : Nat)  (S : so_St) (k_a0 : a0 % 64 ∈ [24]) (k_a1 : a1 % 64 ∈ [4, 14, 15, 16, 17, 18]) (hf : fJ2_add a0 a1 S = some (res, S')) : jx_Sp 6 yJ2_add (ws_ yJ2_add cJ2_add 2 (Option.some Jvm.ClassFile.FieldType.boolean)) [.ref a0, .ref a1] S (.inl (some (.int res))) S' := by
  refine jx_of (plainFor_of_name (by decide)) (so_le rfl) ?_
  show jg_ (S, S', .inl (some (.int res))) kJ2_add 0 [(0, .ref a0), (1, .ref a1)] [] S
  unfold fJ2_add at hf
  refine jr_aload_n dJ2_add_0 rfl rfl jv_rr ?_
  refine jr_dup dJ2_add_1 rfl ?_
  refine jr_getI fl_J2_63_24 k_a0 (so_n26 rfl) dJ2_add_2 ?_
  refine jr_iconst dJ2_add_5 ic_1 ?_
  refine jr_iadd dJ2_add_6 ?_
  refine jr_putI fp_J2_63_24 k_a0 (so_n26 rfl) (fun h => by cases h) rfl rfl dJ2_add_7 ?_
  refine so_let_e hf (fun S1 hf => ?_)
  refine jr_aload_n dJ2_add_10 rfl rfl jv_rr ?_
  refine jr_aload_n dJ2_add_11 rfl rfl jv_rr ?_
  refine jr_aload_n dJ2_add_12 rfl rfl jv_rr ?_
  refine jr_getR fl_J2_9_24 k_a0 (so_n26 rfl) dJ2_add_13 ?_
  obtain ⟨p2, h3, hf⟩ := so_b hf
  obtain ⟨h3, k_p2⟩ := so_rk_s h3
  refine jr_rf h3 ?_
  refine jr_aload_n dJ2_add_16 rfl rfl jv_rr ?_
  refine jr_getI fl_J2_48_24 k_a0 (so_n26 rfl) dJ2_add_17 ?_
  obtain ⟨S6, h4, hf⟩ := so_b hf
  refine jr_callM (st := []) lk_J2_131_24 (wJ2_add_2 a0 a1 p2 (so_I S1 a0 2) S1 k_a0 k_a1 k_p2 h4) k_a0 rfl rfl rfl (so_le rfl) (so_le rfl) dJ2_add_20 ?_
  refine jr_iconst dJ2_add_23 ic_1 ?_
  obtain ⟨rfl, rfl⟩ := so_e2 hf
  exact jr_iret rfl rfl dJ2_add_24

/- X2_parts -/
abbrev kX2_parts : jx_K := (cX2_parts, 3, RX2, 0, (Option.none : Option Jvm.ClassFile.FieldType), "parts", [])
def fX2_parts (a0 : Nat) (a1 : Int32) (a2 : Int32) (S : so_St) : Option so_St :=
  (so_rk (so_R S a0 3) [50]).bind fun p1 =>
  so_gd (so_in (so_I S a0 7) (so_l S p1)) fun _ =>
  so_let (so_sI S p1 (so_I S a0 7).toNatClampNeg a1) fun S4 =>
  (so_rk (so_R S4 a0 4) [50]).bind fun p5 =>
  so_gd (so_in (so_I S4 a0 7) (so_l S4 p5)) fun _ =>
  so_let (so_sI S4 p5 (so_I S4 a0 7).toNatClampNeg a2) fun S8 =>
  (so_rk (so_R S8 a0 2) [50]).bind fun p9 =>
  so_gd (so_in a1 (so_l S8 p9)) fun _ =>
  so_gd (so_in a1 (so_l S8 p9)) fun _ =>
  so_let (so_sI S8 p9 a1.toNatClampNeg ((so_I S8 p9 a1.toNatClampNeg) ||| ((1 : Int32) <<< (a2 &&& 31)))) fun S13 =>
  (so_rk (so_R S13 a0 2) [50]).bind fun p14 =>
  so_gd (so_in a2 (so_l S13 p14)) fun _ =>
  so_gd (so_in a2 (so_l S13 p14)) fun _ =>
  so_let (so_sI S13 p14 a2.toNatClampNeg ((so_I S13 p14 a2.toNatClampNeg) ||| ((1 : Int32) <<< (a1 &&& 31)))) fun S18 =>
  so_let (so_sI S18 a0 7 ((so_I S18 a0 7) + (1 : Int32))) fun S19 =>
  some S19
set_option maxHeartbeats 4000000 in
set_option maxRecDepth 100000 in
theorem wX2_parts {S' : so_St}  (a0 : Nat) (a1 : Int32) (a2 : Int32)  (S : so_St) (k_a0 : a0 % 64 ∈ [1]) (hf : fX2_parts a0 a1 a2 S = some S') : jx_Sp 0 yX2_parts (ws_ yX2_parts cX2_parts 3 (Option.none : Option Jvm.ClassFile.FieldType)) [.ref a0, .int a1, .int a2] S (.inl none) S' := by
  refine jx_of (plainFor_of_name (by decide)) (so_le rfl) ?_
  show jg_ (S, S', .inl none) kX2_parts 0 [(0, .ref a0), (1, .int a1), (2, .int a2)] [] S
  unfold fX2_parts at hf
  refine jr_aload_n dX2_parts_0 rfl rfl jv_rr ?_
  refine jr_getR fl_X2_21_1 k_a0 (so_n26 rfl) dX2_parts_1 ?_
  obtain ⟨p1, h2, hf⟩ := so_b hf
  obtain ⟨h2, k_p1⟩ := so_rk_s h2
  refine jr_rf h2 ?_
  refine jr_aload_n dX2_parts_4 rfl rfl jv_rr ?_
  refine jr_getI fl_X2_40_1 k_a0 (so_n26 rfl) dX2_parts_5 ?_
  refine jr_iload_n dX2_parts_8 rfl rfl ?_
  obtain ⟨g3, hf⟩ := so_gdE hf
  refine jr_iastore (so_m1 k_p1) (so_inE g3) dX2_parts_9 ?_
  refine so_let_e hf (fun S4 hf => ?_)
  refine jr_aload_n dX2_parts_10 rfl rfl jv_rr ?_
  refine jr_getR fl_X2_24_1 k_a0 (so_n26 rfl) dX2_parts_11 ?_
  obtain ⟨p5, h6, hf⟩ := so_b hf
  obtain ⟨h6, k_p5⟩ := so_rk_s h6
  refine jr_rf h6 ?_
  refine jr_aload_n dX2_parts_14 rfl rfl jv_rr ?_
  refine jr_getI fl_X2_40_1 k_a0 (so_n26 rfl) dX2_parts_15 ?_
  refine jr_iload_n dX2_parts_18 rfl rfl ?_
  obtain ⟨g7, hf⟩ := so_gdE hf
  refine jr_iastore (so_m1 k_p5) (so_inE g7) dX2_parts_19 ?_
  refine so_let_e hf (fun S8 hf => ?_)
  refine jr_aload_n dX2_parts_20 rfl rfl jv_rr ?_
  refine jr_getR fl_X2_18_1 k_a0 (so_n26 rfl) dX2_parts_21 ?_
  obtain ⟨p9, h10, hf⟩ := so_b hf
  obtain ⟨h10, k_p9⟩ := so_rk_s h10
  refine jr_rf h10 ?_
  refine jr_iload_n dX2_parts_24 rfl rfl ?_
  refine jr_dup2 dX2_parts_25 rfl rfl ?_
  obtain ⟨g11, hf⟩ := so_gdE hf
  refine jr_iaload (so_m1 k_p9) (so_inE g11) dX2_parts_26 ?_
  refine jr_iconst dX2_parts_27 ic_1 ?_
  refine jr_iload_n dX2_parts_28 rfl rfl ?_
  refine jr_ishl dX2_parts_29 ?_
  refine jr_ior dX2_parts_30 ?_
  obtain ⟨g12, hf⟩ := so_gdE hf
  refine jr_iastore (so_m1 k_p9) (so_inE g12) dX2_parts_31 ?_
  refine so_let_e hf (fun S13 hf => ?_)
  refine jr_aload_n dX2_parts_32 rfl rfl jv_rr ?_
  refine jr_getR fl_X2_18_1 k_a0 (so_n26 rfl) dX2_parts_33 ?_
  obtain ⟨p14, h15, hf⟩ := so_b hf
  obtain ⟨h15, k_p14⟩ := so_rk_s h15
  refine jr_rf h15 ?_
  refine jr_iload_n dX2_parts_36 rfl rfl ?_
  refine jr_dup2 dX2_parts_37 rfl rfl ?_
  obtain ⟨g16, hf⟩ := so_gdE hf
  refine jr_iaload (so_m1 k_p14) (so_inE g16) dX2_parts_38 ?_
  refine jr_iconst dX2_parts_39 ic_1 ?_
  refine jr_iload_n dX2_parts_40 rfl rfl ?_
  refine jr_ishl dX2_parts_41 ?_
  refine jr_ior dX2_parts_42 ?_
  obtain ⟨g17, hf⟩ := so_gdE hf
  refine jr_iastore (so_m1 k_p14) (so_inE g17) dX2_parts_43 ?_
  refine so_let_e hf (fun S18 hf => ?_)
  refine jr_aload_n dX2_parts_44 rfl rfl jv_rr ?_
  refine jr_dup dX2_parts_45 rfl ?_
  refine jr_getI fl_X2_40_1 k_a0 (so_n26 rfl) dX2_parts_46 ?_
  refine jr_iconst dX2_parts_49 ic_1 ?_
  refine jr_iadd dX2_parts_50 ?_
  refine jr_putI fp_X2_40_1 k_a0 (so_n26 rfl) (fun h => by cases h) rfl rfl dX2_parts_51 ?_
  refine so_let_e hf (fun S19 hf => ?_)
  obtain rfl := so_e1 hf
  exact jr_vret rfl dX2_parts_54

/- X10_clause -/
abbrev kX10_clause : jx_K := (cX10_clause, 6, RX10, 7, (Option.none : Option Jvm.ClassFile.FieldType), "clause", [])
def fX10_clause (a0 : Nat) (a1 : Nat) (S : so_St) : Option ((Unit ⊕ Nat) × so_St) :=
  so_gd (so_big a1) fun _ =>
  so_b2 (fJ9_hashCode a1 S) fun r3 S4 =>
  so_j (κ := Int32 → Option ((Unit ⊕ Nat) × so_St)) (ρ := Option ((Unit ⊕ Nat) × so_St)) (fun (v5 : Int32) =>
  so_j (κ := Unit → Option ((Unit ⊕ Nat) × so_St)) (ρ := Option ((Unit ⊕ Nat) × so_St)) (fun (_u : Unit) =>
  so_b2 (fX10_isFull a0 a1 S4) fun r9 S10 =>
  if r9 = (0 : Int32) then
  ((fJ9_length a1 S10).bind fun r13 =>
  so_let (so_sI S10 a0 2 ((so_I S10 a0 2) + r13)) fun S14 =>
  so_b2 (fJ9_hashCode a1 S14) fun r16 S17 =>
  so_j (κ := Int32 → Option ((Unit ⊕ Nat) × so_St)) (ρ := Option ((Unit ⊕ Nat) × so_St)) (fun (v18 : Int32) =>
  if v18 = (0 : Int32) then
  ((so_rk (so_R S17 a0 5) [1]).bind fun p21 =>
  (so_rk (so_R S17 p21 0) [50]).bind fun p23 =>
  (so_rk (so_R S17 a0 5) [1]).bind fun p25 =>
  so_b3 (fX10_thing a0 S17) (fun r27 S28 =>
  so_gd (so_in (so_I S17 p25 6) (so_l S28 p23)) fun _ =>
  so_let (so_sI S28 p23 (so_I S17 p25 6).toNatClampNeg r27) fun S34 =>
  (so_rk (so_R S34 a0 5) [1]).bind fun p35 =>
  so_let (so_sI S34 p35 6 ((so_I S34 p35 6) + (1 : Int32))) fun S37 =>
  some (.inl (), S37))
  (fun x29 S30 =>
  so_gd (decide (x29 % 64 ∈ [3])) fun _ =>
  some (.inr x29, S30)))
  else
  if v18 = (1 : Int32) then
  (so_b3 (fX10_house a0 S17) (fun r39 S40 =>
  so_b3 (fX10_house a0 S40) (fun r45 S46 =>
  so_j (κ := Unit → Option ((Unit ⊕ Nat) × so_St)) (ρ := Option ((Unit ⊕ Nat) × so_St)) (fun (_u : Unit) =>
  so_let (so_new S46 3 0 8) fun S52 =>
  (fX11_init (so_at S46 3) (2 : Int32) (so_I S52 a0 3) S52).bind fun S55 =>
  some (.inr (so_at S46 3), S55))
  (fun J51 =>
  if r39 = r45 then
  (J51 ())
  else
  ((so_rk (so_R S46 a0 5) [1]).bind fun p58 =>
  (so_rk (so_R S46 p58 2) [50]).bind fun p60 =>
  so_gd (so_in r39 (so_l S46 p60)) fun _ =>
  if (((so_I S46 p60 r39.toNatClampNeg) >>> (r45 &&& 31)) &&& (1 : Int32)) = (1 : Int32) then
  (J51 ())
  else
  ((so_rk (so_R S46 a0 5) [1]).bind fun p64 =>
  (fX2_parts p64 r39 r45 S46).bind fun S68 =>
  some (.inl (), S68)))))
  (fun x47 S48 =>
  so_gd (decide (x47 % 64 ∈ [3])) fun _ =>
  some (.inr x47, S48)))
  (fun x41 S42 =>
  so_gd (decide (x41 % 64 ∈ [3])) fun _ =>
  some (.inr x41, S42)))
  else
  if v18 = (2 : Int32) then
  (so_b3 (fX10_thing a0 S17) (fun r70 S71 =>
  (so_rk (so_R S71 a0 5) [1]).bind fun p76 =>
  (so_rk (so_R S71 p76 5) [24]).bind fun p78 =>
  so_let (so_new S71 4 0 2) fun S80 =>
  so_b3 (fX9_number a0 (1 : Int32) (9 : Int32) S80) (fun r81 S82 =>
  (fX12_init (so_at S71 4) r70 r81 S82).bind fun S89 =>
  so_b2 (fJ2_add p78 (so_at S71 4) S89) fun r91 S92 =>
  some (.inl (), S92))
  (fun x83 S84 =>
  so_gd (decide (x83 % 64 ∈ [3])) fun _ =>
  some (.inr x83, S84)))
  (fun x72 S73 =>
  so_gd (decide (x72 % 64 ∈ [3])) fun _ =>
  some (.inr x72, S73)))
  else
  if v18 = (3 : Int32) then
  (so_b3 (fX10_house a0 S17) (fun r94 S95 =>
  (so_rk (so_R S95 a0 5) [1]).bind fun p100 =>
  (so_rk (so_R S95 p100 1) [50]).bind fun p102 =>
  so_b3 (fX10_thing a0 S95) (fun r104 S105 =>
  so_gd (so_in r94 (so_l S105 p102)) fun _ =>
  so_let (so_sI S105 p102 r94.toNatClampNeg r104) fun S111 =>
  some (.inl (), S111))
  (fun x106 S107 =>
  so_gd (decide (x106 % 64 ∈ [3])) fun _ =>
  some (.inr x106, S107)))
  (fun x96 S97 =>
  so_gd (decide (x96 % 64 ∈ [3])) fun _ =>
  some (.inr x96, S97)))
  else
  ((so_rk (so_R S17 a0 5) [1]).bind fun p112 =>
  so_b3 (fX9_number a0 (0 : Int32) (40 : Int32) S17) (fun r114 S115 =>
  so_let (so_sI S115 p112 8 r114) fun S120 =>
  some (.inl (), S120))
  (fun x116 S117 =>
  so_gd (decide (x116 % 64 ∈ [3])) fun _ =>
  some (.inr x116, S117))))
  (fun J19 =>
  if r16 = (3641802 : Int32) then
  ((fJ9_equals a1 282 S17).bind fun r123 =>
  if r123 = (0 : Int32) then
  (J19 (-1 : Int32))
  else
  (J19 (1 : Int32)))
  else
  if r16 = (3649703 : Int32) then
  ((fJ9_equals a1 538 S17).bind fun r127 =>
  if r127 = (0 : Int32) then
  (J19 (-1 : Int32))
  else
  (J19 (3 : Int32)))
  else
  if r16 = (99469088 : Int32) then
  ((fJ9_equals a1 154 S17).bind fun r131 =>
  if r131 = (0 : Int32) then
  (J19 (-1 : Int32))
  else
  (J19 (0 : Int32)))
  else
  if r16 = (106659145 : Int32) then
  ((fJ9_equals a1 410 S17).bind fun r135 =>
  if r135 = (0 : Int32) then
  (J19 (-1 : Int32))
  else
  (J19 (2 : Int32)))
  else
  (J19 (-1 : Int32))))
  else
  (so_let (so_new S10 3 0 8) fun S137 =>
  (fX11_init (so_at S10 3) (3 : Int32) (so_I S137 a0 2) S137).bind fun S140 =>
  some (.inr (so_at S10 3), S140)))
  (fun J7 =>
  if v5 = (0 : Int32) then
  (J7 ())
  else
  if v5 = (1 : Int32) then
  (J7 ())
  else
  if v5 = (2 : Int32) then
  (J7 ())
  else
  if v5 = (3 : Int32) then
  (J7 ())
  else
  if v5 = (4 : Int32) then
  (J7 ())
  else
  (so_b2 (fX9_wrong a0 S4) fun r148 S149 =>
  so_gd (decide (r148 % 64 ∈ [3])) fun _ =>
  some (.inr r148, S149))))
  (fun J6 =>
  if r3 = (3139207 : Int32) then
  ((fJ9_equals a1 666 S4).bind fun r154 =>
  if r154 = (0 : Int32) then
  (J6 (-1 : Int32))
  else
  (J6 (4 : Int32)))
  else
  if r3 = (3641802 : Int32) then
  ((fJ9_equals a1 282 S4).bind fun r158 =>
  if r158 = (0 : Int32) then
  (J6 (-1 : Int32))
  else
  (J6 (1 : Int32)))
  else
  if r3 = (3649703 : Int32) then
  ((fJ9_equals a1 538 S4).bind fun r162 =>
  if r162 = (0 : Int32) then
  (J6 (-1 : Int32))
  else
  (J6 (3 : Int32)))
  else
  if r3 = (99469088 : Int32) then
  ((fJ9_equals a1 154 S4).bind fun r166 =>
  if r166 = (0 : Int32) then
  (J6 (-1 : Int32))
  else
  (J6 (0 : Int32)))
  else
  if r3 = (106659145 : Int32) then
  ((fJ9_equals a1 410 S4).bind fun r170 =>
  if r170 = (0 : Int32) then
  (J6 (-1 : Int32))
  else
  (J6 (2 : Int32)))
  else
  (J6 (-1 : Int32)))
set_option maxHeartbeats 4000000 in
set_option maxRecDepth 100000 in
theorem wX10_clause {res : Unit ⊕ Nat} {S' : so_St}  (a0 : Nat) (a1 : Nat)  (S : so_St) (k_a0 : a0 % 64 ∈ [2]) (k_a1 : a1 % 64 ∈ [26]) (hf : fX10_clause a0 a1 S = some (res, S')) : jx_Sp 7 yX10_clause (ws_ yX10_clause cX10_clause 6 (Option.none : Option Jvm.ClassFile.FieldType)) [.ref a0, .ref a1] S (so_ov res) S' := by
  refine jx_of (plainFor_of_name (by decide)) (so_le rfl) ?_
  show jg_ (S, S', so_ov res) kX10_clause 0 [(0, .ref a0), (1, .ref a1)] [] S
  unfold fX10_clause at hf
  refine jr_aload_n dX10_clause_0 rfl rfl jv_rr ?_
  refine jr_astore_n (lv' := [(0, .ref a0), (1, .ref a1), (2, .ref a1)]) dX10_clause_1 rfl (so_le rfl) jv_rr rfl ?_
  refine jr_iconst dX10_clause_2 ic_m1 ?_
  refine jr_istore_n (lv' := [(0, .ref a0), (1, .ref a1), (2, .ref a1), (3, .int (-1 : Int32))]) dX10_clause_3 rfl (so_le rfl) rfl ?_
  refine jr_aload_n dX10_clause_4 rfl rfl jv_rr ?_
  obtain ⟨g1, hf⟩ := so_gdE hf
  obtain ⟨r3, S4, h2, hf⟩ := so_b2E hf
  refine jr_call (st := []) (lk_X10_50_26 26 (so_i1 rfl)) (wJ9_hashCode a1 S k_a1 (so_bigE g1) h2) (jk_r2 26 (so_m1 k_a1) (so_le rfl) rfl rfl (fun _ => (so_bigE g1))) rfl rfl (so_le rfl) (so_le rfl) dX10_clause_5 ?_
  refine so_jE hf (fun J => ∀ (v5 : Int32), J v5 = some (res, S') → jg_ (S, S', so_ov res) kX10_clause 127 [(0, .ref a0), (1, .ref a1), (3, .int v5)] [] S4) (fun v5 hf => ?_) (fun J6 hJ6 hf => ?_)
  · refine jr_iload_n dX10_clause_127 rfl rfl ?_
    refine so_jE hf (fun J => ∀ (u0 : Unit), J u0 = some (res, S') → jg_ (S, S', so_ov res) kX10_clause 164 [(0, .ref a0), (1, .ref a1)] [] S4) (fun _u hf => ?_) (fun J7 hJ7 hf => ?_)
    · refine jr_goto (tgt := 172) dX10_clause_164 rfl ?_
      refine jr_aload_n dX10_clause_172 rfl rfl jv_rr ?_
      refine jr_aload_n dX10_clause_173 rfl rfl jv_rr ?_
      obtain ⟨r9, S10, h8, hf⟩ := so_b2E hf
      refine jr_callM (st := []) lk_X10_90_2 (wX10_isFull a0 a1 S4 k_a0 k_a1 h8) k_a0 rfl rfl rfl (so_le rfl) (so_le rfl) dX10_clause_174 ?_
      refine jr_if_eq (tgt := 193) dX10_clause_177 rfl (fun c11 => ?_) (fun c11 => ?_)
      · have hf := so_t c11 hf
        refine jr_aload_n dX10_clause_193 rfl rfl jv_rr ?_
        refine jr_dup dX10_clause_194 rfl ?_
        refine jr_getI fl_X10_28_2 k_a0 (so_n26 rfl) dX10_clause_195 ?_
        refine jr_aload_n dX10_clause_198 rfl rfl jv_rr ?_
        obtain ⟨r13, h12, hf⟩ := so_b hf
        refine jr_call (st := [.int (so_I S10 a0 2), .ref a0]) (lk_X10_99_26 26 (so_i1 rfl)) (wJ9_length a1 S10 k_a1 h12) (jk_r2 26 (so_m1 k_a1) (so_le rfl) rfl rfl (fun _ => (so_bigE g1))) rfl rfl (so_le rfl) (so_le rfl) dX10_clause_199 ?_
        refine jr_iadd dX10_clause_202 ?_
        refine jr_putI fp_X10_28_2 k_a0 (so_n26 rfl) (fun h => by cases h) rfl rfl dX10_clause_203 ?_
        refine so_let_e hf (fun S14 hf => ?_)
        refine jr_aload_n dX10_clause_206 rfl rfl jv_rr ?_
        refine jr_astore_n (lv' := [(0, .ref a0), (1, .ref a1), (2, .ref a1)]) dX10_clause_207 rfl (so_le rfl) jv_rr rfl ?_
        refine jr_iconst dX10_clause_208 ic_m1 ?_
        refine jr_istore_n (lv' := [(0, .ref a0), (1, .ref a1), (2, .ref a1), (3, .int (-1 : Int32))]) dX10_clause_209 rfl (so_le rfl) rfl ?_
        refine jr_aload_n dX10_clause_210 rfl rfl jv_rr ?_
        obtain ⟨r16, S17, h15, hf⟩ := so_b2E hf
        refine jr_call (st := []) (lk_X10_50_26 26 (so_i1 rfl)) (wJ9_hashCode a1 S14 k_a1 (so_bigE g1) h15) (jk_r2 26 (so_m1 k_a1) (so_le rfl) rfl rfl (fun _ => (so_bigE g1))) rfl rfl (so_le rfl) (so_le rfl) dX10_clause_211 ?_
        refine so_jE hf (fun J => ∀ (v18 : Int32), J v18 = some (res, S') → jg_ (S, S', so_ov res) kX10_clause 309 [(0, .ref a0), (3, .int v18)] [] S17) (fun v18 hf => ?_) (fun J19 hJ19 hf => ?_)
        · refine jr_iload_n dX10_clause_309 rfl rfl ?_
          by_cases c20 : v18 = (0 : Int32)
          · have hf := so_t c20 hf
            refine jr_tsIn (tgt := 340) (0 : Int32) c20 dX10_clause_310 (by decide) (by decide) rfl rfl ?_
            refine jr_aload_n dX10_clause_340 rfl rfl jv_rr ?_
            refine jr_getR fl_X10_14_2 k_a0 (so_n26 rfl) dX10_clause_341 ?_
            obtain ⟨p21, h22, hf⟩ := so_b hf
            obtain ⟨h22, k_p21⟩ := so_rk_s h22
            refine jr_rf h22 ?_
            refine jr_getR fl_X10_102_1 k_p21 (so_n26 rfl) dX10_clause_344 ?_
            obtain ⟨p23, h24, hf⟩ := so_b hf
            obtain ⟨h24, k_p23⟩ := so_rk_s h24
            refine jr_rf h24 ?_
            refine jr_aload_n dX10_clause_347 rfl rfl jv_rr ?_
            refine jr_getR fl_X10_14_2 k_a0 (so_n26 rfl) dX10_clause_348 ?_
            obtain ⟨p25, h26, hf⟩ := so_b hf
            obtain ⟨h26, k_p25⟩ := so_rk_s h26
            refine jr_rf h26 ?_
            refine jr_getI fl_X10_65_1 k_p25 (so_n26 rfl) dX10_clause_351 ?_
            refine jr_aload_n dX10_clause_354 rfl rfl jv_rr ?_
            rcases so_b3E hf with ⟨r27, S28, h31, hf⟩ | ⟨x29, S30, h31, hf⟩
            · refine jr_callM (st := [.int (so_I S17 p25 6), .ref p23]) lk_X10_105_2 (wX10_thing a0 S17 k_a0 h31) k_a0 rfl rfl rfl (so_le rfl) (so_le rfl) dX10_clause_355 ?_
              obtain ⟨g33, hf⟩ := so_gdE hf
              refine jr_iastore (so_m1 k_p23) (so_inE g33) dX10_clause_358 ?_
              refine so_let_e hf (fun S34 hf => ?_)
              refine jr_aload_n dX10_clause_359 rfl rfl jv_rr ?_
              refine jr_getR fl_X10_14_2 k_a0 (so_n26 rfl) dX10_clause_360 ?_
              obtain ⟨p35, h36, hf⟩ := so_b hf
              obtain ⟨h36, k_p35⟩ := so_rk_s h36
              refine jr_rf h36 ?_
              refine jr_dup dX10_clause_363 rfl ?_
              refine jr_getI fl_X10_65_1 k_p35 (so_n26 rfl) dX10_clause_364 ?_
              refine jr_iconst dX10_clause_367 ic_1 ?_
              refine jr_iadd dX10_clause_368 ?_
              refine jr_putI fp_X10_65_1 k_p35 (so_n26 rfl) (fun h => by cases h) rfl rfl dX10_clause_369 ?_
              refine so_let_e hf (fun S37 hf => ?_)
              obtain ⟨rfl, rfl⟩ := so_e2 hf
              exact jr_vret rfl dX10_clause_372
            · refine jr_callMX (st := [.int (so_I S17 p25 6), .ref p23]) lk_X10_105_2 (wX10_thing a0 S17 k_a0 h31) k_a0 rfl rfl rfl (so_le rfl) (so_le rfl) dX10_clause_355 ?_
              obtain ⟨g32, hf⟩ := so_gdE hf
              obtain ⟨rfl, rfl⟩ := so_e2 hf
              exact jr_out (so_l29 (of_decide_eq_true g32) rfl).1 (so_l29 (of_decide_eq_true g32) rfl).2 rfl
          · have hf := so_f c20 hf
            by_cases c38 : v18 = (1 : Int32)
            · have hf := so_t c38 hf
              refine jr_tsIn (tgt := 373) (1 : Int32) c38 dX10_clause_310 (by decide) (by decide) rfl rfl ?_
              refine jr_aload_n dX10_clause_373 rfl rfl jv_rr ?_
              rcases so_b3E hf with ⟨r39, S40, h43, hf⟩ | ⟨x41, S42, h43, hf⟩
              · refine jr_callM (st := []) lk_X10_107_2 (wX10_house a0 S17 k_a0 h43) k_a0 rfl rfl rfl (so_le rfl) (so_le rfl) dX10_clause_374 ?_
                refine jr_istore (lv' := [(0, .ref a0), (3, .int v18), (4, .int r39)]) dX10_clause_377 (so_le rfl) rfl ?_
                refine jr_aload_n dX10_clause_379 rfl rfl jv_rr ?_
                rcases so_b3E hf with ⟨r45, S46, h49, hf⟩ | ⟨x47, S48, h49, hf⟩
                · refine jr_callM (st := []) lk_X10_107_2 (wX10_house a0 S40 k_a0 h49) k_a0 rfl rfl rfl (so_le rfl) (so_le rfl) dX10_clause_380 ?_
                  refine jr_istore (lv' := [(0, .ref a0), (3, .int v18), (4, .int r39), (5, .int r45)]) dX10_clause_383 (so_le rfl) rfl ?_
                  refine jr_iload dX10_clause_385 rfl ?_
                  refine jr_iload dX10_clause_387 rfl ?_
                  refine so_jE hf (fun J => ∀ (u0 : Unit), J u0 = some (res, S') → jg_ (S, S', so_ov res) kX10_clause 411 [(0, .ref a0)] [] S46) (fun _u hf => ?_) (fun J51 hJ51 hf => ?_)
                  · refine jr_new nw_X10_94 dX10_clause_411 ?_
                    refine so_let_e hf (fun S52 hf => ?_)
                    refine jr_dup dX10_clause_414 rfl ?_
                    refine jr_iconst dX10_clause_415 ic_2 ?_
                    refine jr_aload_n dX10_clause_416 rfl rfl jv_rr ?_
                    refine jr_getI fl_X10_112_2 k_a0 (so_n26 rfl) dX10_clause_417 ?_
                    obtain ⟨S55, h53, hf⟩ := so_b hf
                    refine jr_call (st := [.ref (so_at S46 3)]) lk_X10_96 (wX11_init (so_at S46 3) (2 : Int32) (so_I S52 a0 3) S52 (so_atk rfl) h53) (jk_r1 (so_n63 (so_atk rfl) rfl)) rfl rfl (so_le rfl) (so_le rfl) dX10_clause_420 ?_
                    obtain ⟨rfl, rfl⟩ := so_e2 hf
                    exact jr_athrow (so_n63 (so_atk rfl) rfl) dX10_clause_423 (jr_out (so_l29 (so_atk rfl) rfl).1 (so_l29 (so_atk rfl) rfl).2 rfl)
                  · refine jr_icmp_eq (tgt := 411) dX10_clause_389 rfl (fun c57 => ?_) (fun c57 => ?_)
                    · have hf := so_t c57 hf
                      refine jr_sub [0] rfl ?_
                      exact hJ51 () hf
                    · have hf := so_f c57 hf
                      refine jr_aload_n dX10_clause_392 rfl rfl jv_rr ?_
                      refine jr_getR fl_X10_14_2 k_a0 (so_n26 rfl) dX10_clause_393 ?_
                      obtain ⟨p58, h59, hf⟩ := so_b hf
                      obtain ⟨h59, k_p58⟩ := so_rk_s h59
                      refine jr_rf h59 ?_
                      refine jr_getR fl_X10_109_1 k_p58 (so_n26 rfl) dX10_clause_396 ?_
                      obtain ⟨p60, h61, hf⟩ := so_b hf
                      obtain ⟨h61, k_p60⟩ := so_rk_s h61
                      refine jr_rf h61 ?_
                      refine jr_iload dX10_clause_399 rfl ?_
                      obtain ⟨g62, hf⟩ := so_gdE hf
                      refine jr_iaload (so_m1 k_p60) (so_inE g62) dX10_clause_401 ?_
                      refine jr_iload dX10_clause_402 rfl ?_
                      refine jr_ishr dX10_clause_404 ?_
                      refine jr_iconst dX10_clause_405 ic_1 ?_
                      refine jr_iand dX10_clause_406 ?_
                      refine jr_iconst dX10_clause_407 ic_1 ?_
                      refine jr_icmp_ne (tgt := 424) dX10_clause_408 rfl (fun c63 => ?_) (fun c63 => ?_)
                      · have hf := so_f c63 hf
                        refine jr_aload_n dX10_clause_424 rfl rfl jv_rr ?_
                        refine jr_getR fl_X10_14_2 k_a0 (so_n26 rfl) dX10_clause_425 ?_
                        obtain ⟨p64, h65, hf⟩ := so_b hf
                        obtain ⟨h65, k_p64⟩ := so_rk_s h65
                        refine jr_rf h65 ?_
                        refine jr_iload dX10_clause_428 rfl ?_
                        refine jr_iload dX10_clause_430 rfl ?_
                        obtain ⟨S68, h66, hf⟩ := so_b hf
                        refine jr_callM (st := []) lk_X10_115_1 (wX2_parts p64 r39 r45 S46 k_p64 h66) k_p64 rfl rfl rfl (so_le rfl) (so_le rfl) dX10_clause_432 ?_
                        obtain ⟨rfl, rfl⟩ := so_e2 hf
                        exact jr_vret rfl dX10_clause_435
                      · have hf := so_t c63 hf
                        refine jr_sub [0] rfl ?_
                        exact hJ51 () hf
                · refine jr_callMX (st := []) lk_X10_107_2 (wX10_house a0 S40 k_a0 h49) k_a0 rfl rfl rfl (so_le rfl) (so_le rfl) dX10_clause_380 ?_
                  obtain ⟨g50, hf⟩ := so_gdE hf
                  obtain ⟨rfl, rfl⟩ := so_e2 hf
                  exact jr_out (so_l29 (of_decide_eq_true g50) rfl).1 (so_l29 (of_decide_eq_true g50) rfl).2 rfl
              · refine jr_callMX (st := []) lk_X10_107_2 (wX10_house a0 S17 k_a0 h43) k_a0 rfl rfl rfl (so_le rfl) (so_le rfl) dX10_clause_374 ?_
                obtain ⟨g44, hf⟩ := so_gdE hf
                obtain ⟨rfl, rfl⟩ := so_e2 hf
                exact jr_out (so_l29 (of_decide_eq_true g44) rfl).1 (so_l29 (of_decide_eq_true g44) rfl).2 rfl
            · have hf := so_f c38 hf
              by_cases c69 : v18 = (2 : Int32)
              · have hf := so_t c69 hf
                refine jr_tsIn (tgt := 436) (2 : Int32) c69 dX10_clause_310 (by decide) (by decide) rfl rfl ?_
                refine jr_aload_n dX10_clause_436 rfl rfl jv_rr ?_
                rcases so_b3E hf with ⟨r70, S71, h74, hf⟩ | ⟨x72, S73, h74, hf⟩
                · refine jr_callM (st := []) lk_X10_105_2 (wX10_thing a0 S17 k_a0 h74) k_a0 rfl rfl rfl (so_le rfl) (so_le rfl) dX10_clause_437 ?_
                  refine jr_istore (lv' := [(0, .ref a0), (3, .int v18), (4, .int r70)]) dX10_clause_440 (so_le rfl) rfl ?_
                  refine jr_aload_n dX10_clause_442 rfl rfl jv_rr ?_
                  refine jr_getR fl_X10_14_2 k_a0 (so_n26 rfl) dX10_clause_443 ?_
                  obtain ⟨p76, h77, hf⟩ := so_b hf
                  obtain ⟨h77, k_p76⟩ := so_rk_s h77
                  refine jr_rf h77 ?_
                  refine jr_getR fl_X10_71_1 k_p76 (so_n26 rfl) dX10_clause_446 ?_
                  obtain ⟨p78, h79, hf⟩ := so_b hf
                  obtain ⟨h79, k_p78⟩ := so_rk_s h79
                  refine jr_rf h79 ?_
                  refine jr_new nw_X10_118 dX10_clause_449 ?_
                  refine so_let_e hf (fun S80 hf => ?_)
                  refine jr_dup dX10_clause_452 rfl ?_
                  refine jr_iload dX10_clause_453 rfl ?_
                  refine jr_aload_n dX10_clause_455 rfl rfl jv_rr ?_
                  refine jr_iconst dX10_clause_456 ic_1 ?_
                  refine jr_bipush dX10_clause_457 bp_9 ?_
                  rcases so_b3E hf with ⟨r81, S82, h85, hf⟩ | ⟨x83, S84, h85, hf⟩
                  · refine jr_callM (st := [.int r70, .ref (so_at S71 4), .ref (so_at S71 4), .ref p78]) lk_X10_79_2 (wX9_number a0 (1 : Int32) (9 : Int32) S80 (so_ms k_a0 rfl) h85) k_a0 rfl rfl rfl (so_le rfl) (so_le rfl) dX10_clause_459 ?_
                    obtain ⟨S89, h87, hf⟩ := so_b hf
                    refine jr_call (st := [.ref (so_at S71 4), .ref p78]) lk_X10_120 (wX12_init (so_at S71 4) r70 r81 S82 (so_atk rfl) h87) (jk_r1 (so_n63 (so_atk rfl) rfl)) rfl rfl (so_le rfl) (so_le rfl) dX10_clause_462 ?_
                    obtain ⟨r91, S92, h90, hf⟩ := so_b2E hf
                    refine jr_callM (st := []) lk_X10_121_24 (wJ2_add p78 (so_at S71 4) S89 k_p78 (so_ms (so_atk rfl) rfl) h90) k_p78 rfl rfl rfl (so_le rfl) (so_le rfl) dX10_clause_465 ?_
                    refine jr_pop dX10_clause_468 rfl ?_
                    obtain ⟨rfl, rfl⟩ := so_e2 hf
                    exact jr_vret rfl dX10_clause_469
                  · refine jr_callMX (st := [.int r70, .ref (so_at S71 4), .ref (so_at S71 4), .ref p78]) lk_X10_79_2 (wX9_number a0 (1 : Int32) (9 : Int32) S80 (so_ms k_a0 rfl) h85) k_a0 rfl rfl rfl (so_le rfl) (so_le rfl) dX10_clause_459 ?_
                    obtain ⟨g86, hf⟩ := so_gdE hf
                    obtain ⟨rfl, rfl⟩ := so_e2 hf
                    exact jr_out (so_l29 (of_decide_eq_true g86) rfl).1 (so_l29 (of_decide_eq_true g86) rfl).2 rfl
                · refine jr_callMX (st := []) lk_X10_105_2 (wX10_thing a0 S17 k_a0 h74) k_a0 rfl rfl rfl (so_le rfl) (so_le rfl) dX10_clause_437 ?_
                  obtain ⟨g75, hf⟩ := so_gdE hf
                  obtain ⟨rfl, rfl⟩ := so_e2 hf
                  exact jr_out (so_l29 (of_decide_eq_true g75) rfl).1 (so_l29 (of_decide_eq_true g75) rfl).2 rfl
              · have hf := so_f c69 hf
                by_cases c93 : v18 = (3 : Int32)
                · have hf := so_t c93 hf
                  refine jr_tsIn (tgt := 470) (3 : Int32) c93 dX10_clause_310 (by decide) (by decide) rfl rfl ?_
                  refine jr_aload_n dX10_clause_470 rfl rfl jv_rr ?_
                  rcases so_b3E hf with ⟨r94, S95, h98, hf⟩ | ⟨x96, S97, h98, hf⟩
                  · refine jr_callM (st := []) lk_X10_107_2 (wX10_house a0 S17 k_a0 h98) k_a0 rfl rfl rfl (so_le rfl) (so_le rfl) dX10_clause_471 ?_
                    refine jr_istore (lv' := [(0, .ref a0), (3, .int v18), (4, .int r94)]) dX10_clause_474 (so_le rfl) rfl ?_
                    refine jr_aload_n dX10_clause_476 rfl rfl jv_rr ?_
                    refine jr_getR fl_X10_14_2 k_a0 (so_n26 rfl) dX10_clause_477 ?_
                    obtain ⟨p100, h101, hf⟩ := so_b hf
                    obtain ⟨h101, k_p100⟩ := so_rk_s h101
                    refine jr_rf h101 ?_
                    refine jr_getR fl_X10_20_1 k_p100 (so_n26 rfl) dX10_clause_480 ?_
                    obtain ⟨p102, h103, hf⟩ := so_b hf
                    obtain ⟨h103, k_p102⟩ := so_rk_s h103
                    refine jr_rf h103 ?_
                    refine jr_iload dX10_clause_483 rfl ?_
                    refine jr_aload_n dX10_clause_485 rfl rfl jv_rr ?_
                    rcases so_b3E hf with ⟨r104, S105, h108, hf⟩ | ⟨x106, S107, h108, hf⟩
                    · refine jr_callM (st := [.int r94, .ref p102]) lk_X10_105_2 (wX10_thing a0 S95 k_a0 h108) k_a0 rfl rfl rfl (so_le rfl) (so_le rfl) dX10_clause_486 ?_
                      obtain ⟨g110, hf⟩ := so_gdE hf
                      refine jr_iastore (so_m1 k_p102) (so_inE g110) dX10_clause_489 ?_
                      refine so_let_e hf (fun S111 hf => ?_)
                      obtain ⟨rfl, rfl⟩ := so_e2 hf
                      exact jr_vret rfl dX10_clause_490
                    · refine jr_callMX (st := [.int r94, .ref p102]) lk_X10_105_2 (wX10_thing a0 S95 k_a0 h108) k_a0 rfl rfl rfl (so_le rfl) (so_le rfl) dX10_clause_486 ?_
                      obtain ⟨g109, hf⟩ := so_gdE hf
                      obtain ⟨rfl, rfl⟩ := so_e2 hf
                      exact jr_out (so_l29 (of_decide_eq_true g109) rfl).1 (so_l29 (of_decide_eq_true g109) rfl).2 rfl
                  · refine jr_callMX (st := []) lk_X10_107_2 (wX10_house a0 S17 k_a0 h98) k_a0 rfl rfl rfl (so_le rfl) (so_le rfl) dX10_clause_471 ?_
                    obtain ⟨g99, hf⟩ := so_gdE hf
                    obtain ⟨rfl, rfl⟩ := so_e2 hf
                    exact jr_out (so_l29 (of_decide_eq_true g99) rfl).1 (so_l29 (of_decide_eq_true g99) rfl).2 rfl
                · have hf := so_f c93 hf
                  refine jr_tsOut (tgt := 491) [(0 : Int32), (1 : Int32), (2 : Int32), (3 : Int32)] (by decide) (List.forall_mem_cons.mpr ⟨c20, List.forall_mem_cons.mpr ⟨c38, List.forall_mem_cons.mpr ⟨c69, List.forall_mem_cons.mpr ⟨c93, fun _ h => by cases h⟩⟩⟩⟩) dX10_clause_310 rfl ?_
                  refine jr_aload_n dX10_clause_491 rfl rfl jv_rr ?_
                  refine jr_getR fl_X10_14_2 k_a0 (so_n26 rfl) dX10_clause_492 ?_
                  obtain ⟨p112, h113, hf⟩ := so_b hf
                  obtain ⟨h113, k_p112⟩ := so_rk_s h113
                  refine jr_rf h113 ?_
                  refine jr_aload_n dX10_clause_495 rfl rfl jv_rr ?_
                  refine jr_iconst dX10_clause_496 ic_0 ?_
                  refine jr_bipush dX10_clause_497 bp_40 ?_
                  rcases so_b3E hf with ⟨r114, S115, h118, hf⟩ | ⟨x116, S117, h118, hf⟩
                  · refine jr_callM (st := [.ref p112]) lk_X10_79_2 (wX9_number a0 (0 : Int32) (40 : Int32) S17 (so_ms k_a0 rfl) h118) k_a0 rfl rfl rfl (so_le rfl) (so_le rfl) dX10_clause_499 ?_
                    refine jr_putI fp_X10_124_1 k_p112 (so_n26 rfl) (fun h => by cases h) rfl rfl dX10_clause_502 ?_
                    refine so_let_e hf (fun S120 hf => ?_)
                    obtain ⟨rfl, rfl⟩ := so_e2 hf
                    exact jr_vret rfl dX10_clause_505
                  · refine jr_callMX (st := [.ref p112]) lk_X10_79_2 (wX9_number a0 (0 : Int32) (40 : Int32) S17 (so_ms k_a0 rfl) h118) k_a0 rfl rfl rfl (so_le rfl) (so_le rfl) dX10_clause_499 ?_
                    obtain ⟨g119, hf⟩ := so_gdE hf
                    obtain ⟨rfl, rfl⟩ := so_e2 hf
                    exact jr_out (so_l29 (of_decide_eq_true g119) rfl).1 (so_l29 (of_decide_eq_true g119) rfl).2 rfl
        · by_cases c121 : r16 = (3641802 : Int32)
          · have hf := so_t c121 hf
            refine jr_lsIn (off := 56) (tgt := 270) (3641802 : Int32) c121 dX10_clause_214 rfl (by decide) rfl ?_
            refine jr_aload_n dX10_clause_270 rfl rfl jv_rr ?_
            refine jr_ldcS (i := 1) (tx := "wall") (show (RX10, 61, "wall", 1) ∈ jw_lits from by decide +kernel) dX10_clause_271 ?_
            obtain ⟨r123, h122, hf⟩ := so_b hf
            refine jr_call (st := []) (lk_X10_57_26 26 (so_i1 rfl)) (wJ9_equals a1 282 S17 k_a1 (so_i1 rfl) (so_bigE g1) h122) (jk_r2 26 (so_m1 k_a1) (so_le rfl) rfl rfl (fun _ => (so_bigE g1))) rfl rfl (so_le rfl) (so_le rfl) dX10_clause_273 ?_
            refine jr_if_eq (tgt := 309) dX10_clause_276 rfl (fun c124 => ?_) (fun c124 => ?_)
            · have hf := so_t c124 hf
              refine jr_sub [0, 3] rfl ?_
              exact hJ19 (-1 : Int32) hf
            · have hf := so_f c124 hf
              refine jr_iconst dX10_clause_279 ic_1 ?_
              refine jr_istore_n (lv' := [(0, .ref a0), (1, .ref a1), (2, .ref a1), (3, .int (1 : Int32))]) dX10_clause_280 rfl (so_le rfl) rfl ?_
              refine jr_goto (tgt := 309) dX10_clause_281 rfl ?_
              refine jr_sub [0, 3] rfl ?_
              exact hJ19 (1 : Int32) hf
          · have hf := so_f c121 hf
            by_cases c125 : r16 = (3649703 : Int32)
            · have hf := so_t c125 hf
              refine jr_lsIn (off := 84) (tgt := 298) (3649703 : Int32) c125 dX10_clause_214 rfl (by decide) rfl ?_
              refine jr_aload_n dX10_clause_298 rfl rfl jv_rr ?_
              refine jr_ldcS (i := 3) (tx := "wish") (show (RX10, 83, "wish", 3) ∈ jw_lits from by decide +kernel) dX10_clause_299 ?_
              obtain ⟨r127, h126, hf⟩ := so_b hf
              refine jr_call (st := []) (lk_X10_57_26 26 (so_i1 rfl)) (wJ9_equals a1 538 S17 k_a1 (so_i1 rfl) (so_bigE g1) h126) (jk_r2 26 (so_m1 k_a1) (so_le rfl) rfl rfl (fun _ => (so_bigE g1))) rfl rfl (so_le rfl) (so_le rfl) dX10_clause_301 ?_
              refine jr_if_eq (tgt := 309) dX10_clause_304 rfl (fun c128 => ?_) (fun c128 => ?_)
              · have hf := so_t c128 hf
                refine jr_sub [0, 3] rfl ?_
                exact hJ19 (-1 : Int32) hf
              · have hf := so_f c128 hf
                refine jr_iconst dX10_clause_307 ic_3 ?_
                refine jr_istore_n (lv' := [(0, .ref a0), (1, .ref a1), (2, .ref a1), (3, .int (3 : Int32))]) dX10_clause_308 rfl (so_le rfl) rfl ?_
                refine jr_sub [0, 3] rfl ?_
                exact hJ19 (3 : Int32) hf
            · have hf := so_f c125 hf
              by_cases c129 : r16 = (99469088 : Int32)
              · have hf := so_t c129 hf
                refine jr_lsIn (off := 42) (tgt := 256) (99469088 : Int32) c129 dX10_clause_214 rfl (by decide) rfl ?_
                refine jr_aload_n dX10_clause_256 rfl rfl jv_rr ?_
                refine jr_ldcS (i := 0) (tx := "house") (show (RX10, 55, "house", 0) ∈ jw_lits from by decide +kernel) dX10_clause_257 ?_
                obtain ⟨r131, h130, hf⟩ := so_b hf
                refine jr_call (st := []) (lk_X10_57_26 26 (so_i1 rfl)) (wJ9_equals a1 154 S17 k_a1 (so_i1 rfl) (so_bigE g1) h130) (jk_r2 26 (so_m1 k_a1) (so_le rfl) rfl rfl (fun _ => (so_bigE g1))) rfl rfl (so_le rfl) (so_le rfl) dX10_clause_259 ?_
                refine jr_if_eq (tgt := 309) dX10_clause_262 rfl (fun c132 => ?_) (fun c132 => ?_)
                · have hf := so_t c132 hf
                  refine jr_sub [0, 3] rfl ?_
                  exact hJ19 (-1 : Int32) hf
                · have hf := so_f c132 hf
                  refine jr_iconst dX10_clause_265 ic_0 ?_
                  refine jr_istore_n (lv' := [(0, .ref a0), (1, .ref a1), (2, .ref a1), (3, .int (0 : Int32))]) dX10_clause_266 rfl (so_le rfl) rfl ?_
                  refine jr_goto (tgt := 309) dX10_clause_267 rfl ?_
                  refine jr_sub [0, 3] rfl ?_
                  exact hJ19 (0 : Int32) hf
              · have hf := so_f c129 hf
                by_cases c133 : r16 = (106659145 : Int32)
                · have hf := so_t c133 hf
                  refine jr_lsIn (off := 70) (tgt := 284) (106659145 : Int32) c133 dX10_clause_214 rfl (by decide) rfl ?_
                  refine jr_aload_n dX10_clause_284 rfl rfl jv_rr ?_
                  refine jr_ldcS (i := 2) (tx := "piano") (show (RX10, 63, "piano", 2) ∈ jw_lits from by decide +kernel) dX10_clause_285 ?_
                  obtain ⟨r135, h134, hf⟩ := so_b hf
                  refine jr_call (st := []) (lk_X10_57_26 26 (so_i1 rfl)) (wJ9_equals a1 410 S17 k_a1 (so_i1 rfl) (so_bigE g1) h134) (jk_r2 26 (so_m1 k_a1) (so_le rfl) rfl rfl (fun _ => (so_bigE g1))) rfl rfl (so_le rfl) (so_le rfl) dX10_clause_287 ?_
                  refine jr_if_eq (tgt := 309) dX10_clause_290 rfl (fun c136 => ?_) (fun c136 => ?_)
                  · have hf := so_t c136 hf
                    refine jr_sub [0, 3] rfl ?_
                    exact hJ19 (-1 : Int32) hf
                  · have hf := so_f c136 hf
                    refine jr_iconst dX10_clause_293 ic_2 ?_
                    refine jr_istore_n (lv' := [(0, .ref a0), (1, .ref a1), (2, .ref a1), (3, .int (2 : Int32))]) dX10_clause_294 rfl (so_le rfl) rfl ?_
                    refine jr_goto (tgt := 309) dX10_clause_295 rfl ?_
                    refine jr_sub [0, 3] rfl ?_
                    exact hJ19 (2 : Int32) hf
                · have hf := so_f c133 hf
                  refine jr_lsOut (tgt := 309) [(3641802 : Int32), (3649703 : Int32), (99469088 : Int32), (106659145 : Int32)] (by decide) (List.forall_mem_cons.mpr ⟨c121, List.forall_mem_cons.mpr ⟨c125, List.forall_mem_cons.mpr ⟨c129, List.forall_mem_cons.mpr ⟨c133, fun _ h => by cases h⟩⟩⟩⟩) dX10_clause_214 rfl rfl ?_
                  refine jr_sub [0, 3] rfl ?_
                  exact hJ19 (-1 : Int32) hf
      · have hf := so_f c11 hf
        refine jr_new nw_X10_94 dX10_clause_180 ?_
        refine so_let_e hf (fun S137 hf => ?_)
        refine jr_dup dX10_clause_183 rfl ?_
        refine jr_iconst dX10_clause_184 ic_3 ?_
        refine jr_aload_n dX10_clause_185 rfl rfl jv_rr ?_
        refine jr_getI fl_X10_28_2 k_a0 (so_n26 rfl) dX10_clause_186 ?_
        obtain ⟨S140, h138, hf⟩ := so_b hf
        refine jr_call (st := [.ref (so_at S10 3)]) lk_X10_96 (wX11_init (so_at S10 3) (3 : Int32) (so_I S137 a0 2) S137 (so_atk rfl) h138) (jk_r1 (so_n63 (so_atk rfl) rfl)) rfl rfl (so_le rfl) (so_le rfl) dX10_clause_189 ?_
        obtain ⟨rfl, rfl⟩ := so_e2 hf
        exact jr_athrow (so_n63 (so_atk rfl) rfl) dX10_clause_192 (jr_out (so_l29 (so_atk rfl) rfl).1 (so_l29 (so_atk rfl) rfl).2 rfl)
    · by_cases c142 : v5 = (0 : Int32)
      · have hf := so_t c142 hf
        refine jr_tsIn (tgt := 164) (0 : Int32) c142 dX10_clause_128 (by decide) (by decide) rfl rfl ?_
        refine jr_sub [0, 1] rfl ?_
        exact hJ7 () hf
      · have hf := so_f c142 hf
        by_cases c143 : v5 = (1 : Int32)
        · have hf := so_t c143 hf
          refine jr_tsIn (tgt := 164) (1 : Int32) c143 dX10_clause_128 (by decide) (by decide) rfl rfl ?_
          refine jr_sub [0, 1] rfl ?_
          exact hJ7 () hf
        · have hf := so_f c143 hf
          by_cases c144 : v5 = (2 : Int32)
          · have hf := so_t c144 hf
            refine jr_tsIn (tgt := 164) (2 : Int32) c144 dX10_clause_128 (by decide) (by decide) rfl rfl ?_
            refine jr_sub [0, 1] rfl ?_
            exact hJ7 () hf
          · have hf := so_f c144 hf
            by_cases c145 : v5 = (3 : Int32)
            · have hf := so_t c145 hf
              refine jr_tsIn (tgt := 164) (3 : Int32) c145 dX10_clause_128 (by decide) (by decide) rfl rfl ?_
              refine jr_sub [0, 1] rfl ?_
              exact hJ7 () hf
            · have hf := so_f c145 hf
              by_cases c146 : v5 = (4 : Int32)
              · have hf := so_t c146 hf
                refine jr_tsIn (tgt := 164) (4 : Int32) c146 dX10_clause_128 (by decide) (by decide) rfl rfl ?_
                refine jr_sub [0, 1] rfl ?_
                exact hJ7 () hf
              · have hf := so_f c146 hf
                refine jr_tsOut (tgt := 167) [(0 : Int32), (1 : Int32), (2 : Int32), (3 : Int32), (4 : Int32)] (by decide) (List.forall_mem_cons.mpr ⟨c142, List.forall_mem_cons.mpr ⟨c143, List.forall_mem_cons.mpr ⟨c144, List.forall_mem_cons.mpr ⟨c145, List.forall_mem_cons.mpr ⟨c146, fun _ h => by cases h⟩⟩⟩⟩⟩) dX10_clause_128 rfl ?_
                refine jr_aload_n dX10_clause_167 rfl rfl jv_rr ?_
                obtain ⟨r148, S149, h147, hf⟩ := so_b2E hf
                obtain ⟨g150, hf⟩ := so_gdE hf
                refine jr_callM (st := []) lk_X10_86_2 (wX9_wrong a0 S4 (so_ms k_a0 rfl) h147) k_a0 rfl rfl rfl (so_le rfl) (so_le rfl) dX10_clause_168 ?_
                obtain ⟨rfl, rfl⟩ := so_e2 hf
                exact jr_athrow (so_n63 (of_decide_eq_true g150) rfl) dX10_clause_171 (jr_out (so_l29 (of_decide_eq_true g150) rfl).1 (so_l29 (of_decide_eq_true g150) rfl).2 rfl)
  · by_cases c152 : r3 = (3139207 : Int32)
    · have hf := so_t c152 hf
      refine jr_lsIn (off := 108) (tgt := 116) (3139207 : Int32) c152 dX10_clause_8 rfl (by decide) rfl ?_
      refine jr_aload_n dX10_clause_116 rfl rfl jv_rr ?_
      refine jr_ldcS (i := 4) (tx := "felt") (show (RX10, 84, "felt", 4) ∈ jw_lits from by decide +kernel) dX10_clause_117 ?_
      obtain ⟨r154, h153, hf⟩ := so_b hf
      refine jr_call (st := []) (lk_X10_57_26 26 (so_i1 rfl)) (wJ9_equals a1 666 S4 k_a1 (so_i1 rfl) (so_bigE g1) h153) (jk_r2 26 (so_m1 k_a1) (so_le rfl) rfl rfl (fun _ => (so_bigE g1))) rfl rfl (so_le rfl) (so_le rfl) dX10_clause_119 ?_
      refine jr_if_eq (tgt := 127) dX10_clause_122 rfl (fun c155 => ?_) (fun c155 => ?_)
      · have hf := so_t c155 hf
        refine jr_sub [0, 1, 3] rfl ?_
        exact hJ6 (-1 : Int32) hf
      · have hf := so_f c155 hf
        refine jr_iconst dX10_clause_125 ic_4 ?_
        refine jr_istore_n (lv' := [(0, .ref a0), (1, .ref a1), (2, .ref a1), (3, .int (4 : Int32))]) dX10_clause_126 rfl (so_le rfl) rfl ?_
        refine jr_sub [0, 1, 3] rfl ?_
        exact hJ6 (4 : Int32) hf
    · have hf := so_f c152 hf
      by_cases c156 : r3 = (3641802 : Int32)
      · have hf := so_t c156 hf
        refine jr_lsIn (off := 66) (tgt := 74) (3641802 : Int32) c156 dX10_clause_8 rfl (by decide) rfl ?_
        refine jr_aload_n dX10_clause_74 rfl rfl jv_rr ?_
        refine jr_ldcS (i := 1) (tx := "wall") (show (RX10, 61, "wall", 1) ∈ jw_lits from by decide +kernel) dX10_clause_75 ?_
        obtain ⟨r158, h157, hf⟩ := so_b hf
        refine jr_call (st := []) (lk_X10_57_26 26 (so_i1 rfl)) (wJ9_equals a1 282 S4 k_a1 (so_i1 rfl) (so_bigE g1) h157) (jk_r2 26 (so_m1 k_a1) (so_le rfl) rfl rfl (fun _ => (so_bigE g1))) rfl rfl (so_le rfl) (so_le rfl) dX10_clause_77 ?_
        refine jr_if_eq (tgt := 127) dX10_clause_80 rfl (fun c159 => ?_) (fun c159 => ?_)
        · have hf := so_t c159 hf
          refine jr_sub [0, 1, 3] rfl ?_
          exact hJ6 (-1 : Int32) hf
        · have hf := so_f c159 hf
          refine jr_iconst dX10_clause_83 ic_1 ?_
          refine jr_istore_n (lv' := [(0, .ref a0), (1, .ref a1), (2, .ref a1), (3, .int (1 : Int32))]) dX10_clause_84 rfl (so_le rfl) rfl ?_
          refine jr_goto (tgt := 127) dX10_clause_85 rfl ?_
          refine jr_sub [0, 1, 3] rfl ?_
          exact hJ6 (1 : Int32) hf
      · have hf := so_f c156 hf
        by_cases c160 : r3 = (3649703 : Int32)
        · have hf := so_t c160 hf
          refine jr_lsIn (off := 94) (tgt := 102) (3649703 : Int32) c160 dX10_clause_8 rfl (by decide) rfl ?_
          refine jr_aload_n dX10_clause_102 rfl rfl jv_rr ?_
          refine jr_ldcS (i := 3) (tx := "wish") (show (RX10, 83, "wish", 3) ∈ jw_lits from by decide +kernel) dX10_clause_103 ?_
          obtain ⟨r162, h161, hf⟩ := so_b hf
          refine jr_call (st := []) (lk_X10_57_26 26 (so_i1 rfl)) (wJ9_equals a1 538 S4 k_a1 (so_i1 rfl) (so_bigE g1) h161) (jk_r2 26 (so_m1 k_a1) (so_le rfl) rfl rfl (fun _ => (so_bigE g1))) rfl rfl (so_le rfl) (so_le rfl) dX10_clause_105 ?_
          refine jr_if_eq (tgt := 127) dX10_clause_108 rfl (fun c163 => ?_) (fun c163 => ?_)
          · have hf := so_t c163 hf
            refine jr_sub [0, 1, 3] rfl ?_
            exact hJ6 (-1 : Int32) hf
          · have hf := so_f c163 hf
            refine jr_iconst dX10_clause_111 ic_3 ?_
            refine jr_istore_n (lv' := [(0, .ref a0), (1, .ref a1), (2, .ref a1), (3, .int (3 : Int32))]) dX10_clause_112 rfl (so_le rfl) rfl ?_
            refine jr_goto (tgt := 127) dX10_clause_113 rfl ?_
            refine jr_sub [0, 1, 3] rfl ?_
            exact hJ6 (3 : Int32) hf
        · have hf := so_f c160 hf
          by_cases c164 : r3 = (99469088 : Int32)
          · have hf := so_t c164 hf
            refine jr_lsIn (off := 52) (tgt := 60) (99469088 : Int32) c164 dX10_clause_8 rfl (by decide) rfl ?_
            refine jr_aload_n dX10_clause_60 rfl rfl jv_rr ?_
            refine jr_ldcS (i := 0) (tx := "house") (show (RX10, 55, "house", 0) ∈ jw_lits from by decide +kernel) dX10_clause_61 ?_
            obtain ⟨r166, h165, hf⟩ := so_b hf
            refine jr_call (st := []) (lk_X10_57_26 26 (so_i1 rfl)) (wJ9_equals a1 154 S4 k_a1 (so_i1 rfl) (so_bigE g1) h165) (jk_r2 26 (so_m1 k_a1) (so_le rfl) rfl rfl (fun _ => (so_bigE g1))) rfl rfl (so_le rfl) (so_le rfl) dX10_clause_63 ?_
            refine jr_if_eq (tgt := 127) dX10_clause_66 rfl (fun c167 => ?_) (fun c167 => ?_)
            · have hf := so_t c167 hf
              refine jr_sub [0, 1, 3] rfl ?_
              exact hJ6 (-1 : Int32) hf
            · have hf := so_f c167 hf
              refine jr_iconst dX10_clause_69 ic_0 ?_
              refine jr_istore_n (lv' := [(0, .ref a0), (1, .ref a1), (2, .ref a1), (3, .int (0 : Int32))]) dX10_clause_70 rfl (so_le rfl) rfl ?_
              refine jr_goto (tgt := 127) dX10_clause_71 rfl ?_
              refine jr_sub [0, 1, 3] rfl ?_
              exact hJ6 (0 : Int32) hf
          · have hf := so_f c164 hf
            by_cases c168 : r3 = (106659145 : Int32)
            · have hf := so_t c168 hf
              refine jr_lsIn (off := 80) (tgt := 88) (106659145 : Int32) c168 dX10_clause_8 rfl (by decide) rfl ?_
              refine jr_aload_n dX10_clause_88 rfl rfl jv_rr ?_
              refine jr_ldcS (i := 2) (tx := "piano") (show (RX10, 63, "piano", 2) ∈ jw_lits from by decide +kernel) dX10_clause_89 ?_
              obtain ⟨r170, h169, hf⟩ := so_b hf
              refine jr_call (st := []) (lk_X10_57_26 26 (so_i1 rfl)) (wJ9_equals a1 410 S4 k_a1 (so_i1 rfl) (so_bigE g1) h169) (jk_r2 26 (so_m1 k_a1) (so_le rfl) rfl rfl (fun _ => (so_bigE g1))) rfl rfl (so_le rfl) (so_le rfl) dX10_clause_91 ?_
              refine jr_if_eq (tgt := 127) dX10_clause_94 rfl (fun c171 => ?_) (fun c171 => ?_)
              · have hf := so_t c171 hf
                refine jr_sub [0, 1, 3] rfl ?_
                exact hJ6 (-1 : Int32) hf
              · have hf := so_f c171 hf
                refine jr_iconst dX10_clause_97 ic_2 ?_
                refine jr_istore_n (lv' := [(0, .ref a0), (1, .ref a1), (2, .ref a1), (3, .int (2 : Int32))]) dX10_clause_98 rfl (so_le rfl) rfl ?_
                refine jr_goto (tgt := 127) dX10_clause_99 rfl ?_
                refine jr_sub [0, 1, 3] rfl ?_
                exact hJ6 (2 : Int32) hf
            · have hf := so_f c168 hf
              refine jr_lsOut (tgt := 127) [(3139207 : Int32), (3641802 : Int32), (3649703 : Int32), (99469088 : Int32), (106659145 : Int32)] (by decide) (List.forall_mem_cons.mpr ⟨c152, List.forall_mem_cons.mpr ⟨c156, List.forall_mem_cons.mpr ⟨c160, List.forall_mem_cons.mpr ⟨c164, List.forall_mem_cons.mpr ⟨c168, fun _ h => by cases h⟩⟩⟩⟩⟩) dX10_clause_8 rfl rfl ?_
              refine jr_sub [0, 1, 3] rfl ?_
              exact hJ6 (-1 : Int32) hf
