/-! printed: functions and walks -/
set_option maxRecDepth 100000
set_option linter.unusedVariables false
/- X8_image -/
abbrev kX8_image : jx_K := (cX8_image, 1, RX8, 2, (Option.some Jvm.ClassFile.FieldType.int), "image", [])
def fX8_image  (sg : tm_S) : Option (Int32 × tm_S) :=
  tm_let (tm_up sg 0 0 (0 : Int32)) fun S1 =>
  if (S1 0 39) = (3 : Int32) then
  (some ((-1 : Int32), S1))
  else
  (so_gd (so_in (S1 0 39) 3) fun _ =>
  (fX8_putsAll (489 + (S1 0 39).toNatClampNeg) (0 : Int32) S1).bind fun S6 =>
  tm_let (tm_up S6 0 39 ((S6 0 39) + (1 : Int32))) fun S7 =>
  some ((S7 0 39), S7))
set_option maxHeartbeats 4000000 in
set_option maxRecDepth 100000 in
theorem wX8_image {res : Int32} {sg' : tm_S} {S0 : so_St}   (hT : tm_Sh S0) (sg : tm_S)  (hf : fX8_image sg = some (res, sg')) : jx_Sp 2 yX8_image (ws_ yX8_image cX8_image 1 (Option.some Jvm.ClassFile.FieldType.int)) [.ref (tm_a 0)] (tm_j S0 sg) (.inl (some (.int res))) (tm_j S0 sg') := by
  refine jx_of (plainFor_of_name (by decide)) (so_le rfl) ?_
  show jg_ ((tm_j S0 sg), (tm_j S0 sg'), .inl (some (.int res))) kX8_image 0 [(0, .ref (tm_a 0))] [] (tm_j S0 sg)
  unfold fX8_image at hf
  refine jr_aload_n dX8_image_0 rfl rfl jv_rr ?_
  refine jr_iconst dX8_image_1 ic_0 ?_
  refine tr_putI fp_X8_106_23 dX8_image_2 ?_
  refine tm_let_e hf (fun S1 hf => ?_)
  refine jr_aload_n dX8_image_5 rfl rfl jv_rr ?_
  refine tr_getI fl_X8_218_23 dX8_image_6 ?_
  refine jr_iconst dX8_image_9 ic_3 ?_
  refine jr_icmp_ne (tgt := 15) dX8_image_10 rfl (fun c2 => ?_) (fun c2 => ?_)
  · have hf := so_f c2 hf
    refine jr_aload_n dX8_image_15 rfl rfl jv_rr ?_
    refine jr_aload_n dX8_image_16 rfl rfl jv_rr ?_
    refine tr_getR (c := 488) hT (List.mem_of_getElem? (i := 23) rfl) fl_X8_85_23 dX8_image_17 ?_
    refine jr_aload_n dX8_image_20 rfl rfl jv_rr ?_
    refine tr_getI fl_X8_218_23 dX8_image_21 ?_
    obtain ⟨g3, hf⟩ := so_gdE hf
    refine tr_aaload (g' := 489) hT (show tm_k 488 = 56 from rfl) rfl rfl (so_inE g3) dX8_image_24 ?_
    refine jr_iconst dX8_image_25 ic_0 ?_
    obtain ⟨S6, h4, hf⟩ := so_b hf
    refine jr_callM (st := []) lk_X8_409_23 (wX8_putsAll (489 + (S1 0 39).toNatClampNeg) (0 : Int32) hT S1 (tm_rk_488 (so_inE g3)) h4) tm_k23 rfl rfl rfl (so_le rfl) (so_le rfl) dX8_image_26 ?_
    refine jr_aload_n dX8_image_29 rfl rfl jv_rr ?_
    refine jr_dup dX8_image_30 rfl ?_
    refine tr_getI fl_X8_218_23 dX8_image_31 ?_
    refine jr_iconst dX8_image_34 ic_1 ?_
    refine jr_iadd dX8_image_35 ?_
    refine tr_putI fp_X8_218_23 dX8_image_36 ?_
    refine tm_let_e hf (fun S7 hf => ?_)
    refine jr_aload_n dX8_image_39 rfl rfl jv_rr ?_
    refine tr_getI fl_X8_218_23 dX8_image_40 ?_
    obtain ⟨rfl, rfl⟩ := so_e2 hf
    exact jr_iret rfl rfl dX8_image_43
  · have hf := so_t c2 hf
    refine jr_iconst dX8_image_13 ic_m1 ?_
    obtain ⟨rfl, rfl⟩ := so_e2 hf
    exact jr_iret rfl rfl dX8_image_14

/- X8_restore -/
abbrev kX8_restore : jx_K := (cX8_restore, 1, RX8, 2, (Option.some Jvm.ClassFile.FieldType.int), "restore", [])
def fX8_restore  (sg : tm_S) : Option (Int32 × tm_S) :=
  tm_let (tm_up sg 0 0 (0 : Int32)) fun S1 =>
  if (S1 0 39) = (0 : Int32) then
  (some ((-1 : Int32), S1))
  else
  (tm_let (tm_up S1 0 39 ((S1 0 39) - (1 : Int32))) fun S3 =>
  so_gd (so_in (S3 0 39) 3) fun _ =>
  (fX8_putsAll (489 + (S3 0 39).toNatClampNeg) (1 : Int32) S3).bind fun S7 =>
  tm_let (tm_up S7 0 38 (0 : Int32)) fun S8 =>
  some ((S8 0 39), S8))
set_option maxHeartbeats 4000000 in
set_option maxRecDepth 100000 in
theorem wX8_restore {res : Int32} {sg' : tm_S} {S0 : so_St}   (hT : tm_Sh S0) (sg : tm_S)  (hf : fX8_restore sg = some (res, sg')) : jx_Sp 2 yX8_restore (ws_ yX8_restore cX8_restore 1 (Option.some Jvm.ClassFile.FieldType.int)) [.ref (tm_a 0)] (tm_j S0 sg) (.inl (some (.int res))) (tm_j S0 sg') := by
  refine jx_of (plainFor_of_name (by decide)) (so_le rfl) ?_
  show jg_ ((tm_j S0 sg), (tm_j S0 sg'), .inl (some (.int res))) kX8_restore 0 [(0, .ref (tm_a 0))] [] (tm_j S0 sg)
  unfold fX8_restore at hf
  refine jr_aload_n dX8_restore_0 rfl rfl jv_rr ?_
  refine jr_iconst dX8_restore_1 ic_0 ?_
  refine tr_putI fp_X8_106_23 dX8_restore_2 ?_
  refine tm_let_e hf (fun S1 hf => ?_)
  refine jr_aload_n dX8_restore_5 rfl rfl jv_rr ?_
  refine tr_getI fl_X8_218_23 dX8_restore_6 ?_
  refine jr_if_ne (tgt := 14) dX8_restore_9 rfl (fun c2 => ?_) (fun c2 => ?_)
  · have hf := so_f c2 hf
    refine jr_aload_n dX8_restore_14 rfl rfl jv_rr ?_
    refine jr_dup dX8_restore_15 rfl ?_
    refine tr_getI fl_X8_218_23 dX8_restore_16 ?_
    refine jr_iconst dX8_restore_19 ic_1 ?_
    refine jr_isub dX8_restore_20 ?_
    refine tr_putI fp_X8_218_23 dX8_restore_21 ?_
    refine tm_let_e hf (fun S3 hf => ?_)
    refine jr_aload_n dX8_restore_24 rfl rfl jv_rr ?_
    refine jr_aload_n dX8_restore_25 rfl rfl jv_rr ?_
    refine tr_getR (c := 488) hT (List.mem_of_getElem? (i := 23) rfl) fl_X8_85_23 dX8_restore_26 ?_
    refine jr_aload_n dX8_restore_29 rfl rfl jv_rr ?_
    refine tr_getI fl_X8_218_23 dX8_restore_30 ?_
    obtain ⟨g4, hf⟩ := so_gdE hf
    refine tr_aaload (g' := 489) hT (show tm_k 488 = 56 from rfl) rfl rfl (so_inE g4) dX8_restore_33 ?_
    refine jr_iconst dX8_restore_34 ic_1 ?_
    obtain ⟨S7, h5, hf⟩ := so_b hf
    refine jr_callM (st := []) lk_X8_409_23 (wX8_putsAll (489 + (S3 0 39).toNatClampNeg) (1 : Int32) hT S3 (tm_rk_488 (so_inE g4)) h5) tm_k23 rfl rfl rfl (so_le rfl) (so_le rfl) dX8_restore_35 ?_
    refine jr_aload_n dX8_restore_38 rfl rfl jv_rr ?_
    refine jr_iconst dX8_restore_39 ic_0 ?_
    refine tr_putI fp_X8_215_23 dX8_restore_40 ?_
    refine tm_let_e hf (fun S8 hf => ?_)
    refine jr_aload_n dX8_restore_43 rfl rfl jv_rr ?_
    refine tr_getI fl_X8_218_23 dX8_restore_44 ?_
    obtain ⟨rfl, rfl⟩ := so_e2 hf
    exact jr_iret rfl rfl dX8_restore_47
  · have hf := so_t c2 hf
    refine jr_iconst dX8_restore_12 ic_m1 ?_
    obtain ⟨rfl, rfl⟩ := so_e2 hf
    exact jr_iret rfl rfl dX8_restore_13

/- X8_status -/
abbrev kX8_status : jx_K := (cX8_status, 2, RX8, 1, (Option.some Jvm.ClassFile.FieldType.int), "status", [])
def fX8_status (a1 : Int32) (sg : tm_S) : Option (Int32 × tm_S) :=
  tm_let (tm_up sg 0 0 (0 : Int32)) fun S1 =>
  if (fX8_in a1 (0 : Int32) (1 : Int32)) = (0 : Int32) then
  (some ((-1 : Int32), S1))
  else
  (so_gd (so_in a1 2) fun _ =>
  some ((S1 2 a1.toNatClampNeg), S1))
set_option maxHeartbeats 4000000 in
set_option maxRecDepth 100000 in
theorem wX8_status {res : Int32} {sg' : tm_S} {S0 : so_St}  (a1 : Int32) (hT : tm_Sh S0) (sg : tm_S)  (hf : fX8_status a1 sg = some (res, sg')) : jx_Sp 1 yX8_status (ws_ yX8_status cX8_status 2 (Option.some Jvm.ClassFile.FieldType.int)) [.ref (tm_a 0), .int a1] (tm_j S0 sg) (.inl (some (.int res))) (tm_j S0 sg') := by
  refine jx_of (plainFor_of_name (by decide)) (so_le rfl) ?_
  show jg_ ((tm_j S0 sg), (tm_j S0 sg'), .inl (some (.int res))) kX8_status 0 [(0, .ref (tm_a 0)), (1, .int a1)] [] (tm_j S0 sg)
  unfold fX8_status at hf
  refine jr_aload_n dX8_status_0 rfl rfl jv_rr ?_
  refine jr_iconst dX8_status_1 ic_0 ?_
  refine tr_putI fp_X8_106_23 dX8_status_2 ?_
  refine tm_let_e hf (fun S1 hf => ?_)
  refine jr_iload_n dX8_status_5 rfl rfl ?_
  refine jr_iconst dX8_status_6 ic_0 ?_
  refine jr_iconst dX8_status_7 ic_1 ?_
  refine jr_call (st := []) lk_X8_140 (wX8_in a1 (0 : Int32) (1 : Int32) hT S1 rfl) jk_r0 rfl rfl (so_le rfl) (so_le rfl) dX8_status_8 ?_
  refine jr_if_eq (tgt := 23) dX8_status_11 rfl (fun c2 => ?_) (fun c2 => ?_)
  · have hf := so_t c2 hf
    refine jr_iconst dX8_status_23 ic_m1 ?_
    obtain ⟨rfl, rfl⟩ := so_e2 hf
    exact jr_iret rfl rfl dX8_status_24
  · have hf := so_f c2 hf
    refine jr_aload_n dX8_status_14 rfl rfl jv_rr ?_
    refine tr_getR (c := 2) hT (List.mem_of_getElem? (i := 1) rfl) fl_X8_17_23 dX8_status_15 ?_
    refine jr_iload_n dX8_status_18 rfl rfl ?_
    obtain ⟨g3, hf⟩ := so_gdE hf
    refine tr_iaload hT (show tm_k 2 = 50 from rfl) rfl (so_inE g3) dX8_status_19 ?_
    refine jr_goto (tgt := 24) dX8_status_20 rfl ?_
    obtain ⟨rfl, rfl⟩ := so_e2 hf
    exact jr_iret rfl rfl dX8_status_24

/- X8_count -/
abbrev kX8_count : jx_K := (cX8_count, 2, RX8, 0, (Option.some Jvm.ClassFile.FieldType.int), "count", [])
def fX8_count (a1 : Int32) (sg : tm_S) : Option (Int32 × tm_S) :=
  tm_let (tm_up sg 0 0 (0 : Int32)) fun S1 =>
  if a1 = (0 : Int32) then
  (some ((S1 0 39), S1))
  else
  (if a1 = (1 : Int32) then
  (some ((S1 0 1), S1))
  else
  (if a1 = (2 : Int32) then
  (some ((S1 0 37), S1))
  else
  (some ((-1 : Int32), S1))))
set_option maxHeartbeats 4000000 in
set_option maxRecDepth 100000 in
theorem wX8_count {res : Int32} {sg' : tm_S} {S0 : so_St}  (a1 : Int32) (hT : tm_Sh S0) (sg : tm_S)  (hf : fX8_count a1 sg = some (res, sg')) : jx_Sp 0 yX8_count (ws_ yX8_count cX8_count 2 (Option.some Jvm.ClassFile.FieldType.int)) [.ref (tm_a 0), .int a1] (tm_j S0 sg) (.inl (some (.int res))) (tm_j S0 sg') := by
  refine jx_of (plainFor_of_name (by decide)) (so_le rfl) ?_
  show jg_ ((tm_j S0 sg), (tm_j S0 sg'), .inl (some (.int res))) kX8_count 0 [(0, .ref (tm_a 0)), (1, .int a1)] [] (tm_j S0 sg)
  unfold fX8_count at hf
  refine jr_aload_n dX8_count_0 rfl rfl jv_rr ?_
  refine jr_iconst dX8_count_1 ic_0 ?_
  refine tr_putI fp_X8_106_23 dX8_count_2 ?_
  refine tm_let_e hf (fun S1 hf => ?_)
  refine jr_iload_n dX8_count_5 rfl rfl ?_
  refine jr_if_ne (tgt := 16) dX8_count_6 rfl (fun c2 => ?_) (fun c2 => ?_)
  · have hf := so_f c2 hf
    refine jr_iload_n dX8_count_16 rfl rfl ?_
    refine jr_iconst dX8_count_17 ic_1 ?_
    refine jr_icmp_ne (tgt := 28) dX8_count_18 rfl (fun c3 => ?_) (fun c3 => ?_)
    · have hf := so_f c3 hf
      refine jr_iload_n dX8_count_28 rfl rfl ?_
      refine jr_iconst dX8_count_29 ic_2 ?_
      refine jr_icmp_ne (tgt := 40) dX8_count_30 rfl (fun c4 => ?_) (fun c4 => ?_)
      · have hf := so_f c4 hf
        refine jr_iconst dX8_count_40 ic_m1 ?_
        obtain ⟨rfl, rfl⟩ := so_e2 hf
        exact jr_iret rfl rfl dX8_count_41
      · have hf := so_t c4 hf
        refine jr_aload_n dX8_count_33 rfl rfl jv_rr ?_
        refine tr_getI fl_X8_212_23 dX8_count_34 ?_
        refine jr_goto (tgt := 41) dX8_count_37 rfl ?_
        obtain ⟨rfl, rfl⟩ := so_e2 hf
        exact jr_iret rfl rfl dX8_count_41
    · have hf := so_t c3 hf
      refine jr_aload_n dX8_count_21 rfl rfl jv_rr ?_
      refine tr_getI fl_X8_109_23 dX8_count_22 ?_
      refine jr_goto (tgt := 41) dX8_count_25 rfl ?_
      obtain ⟨rfl, rfl⟩ := so_e2 hf
      exact jr_iret rfl rfl dX8_count_41
  · have hf := so_t c2 hf
    refine jr_aload_n dX8_count_9 rfl rfl jv_rr ?_
    refine tr_getI fl_X8_218_23 dX8_count_10 ?_
    refine jr_goto (tgt := 41) dX8_count_13 rfl ?_
    obtain ⟨rfl, rfl⟩ := so_e2 hf
    exact jr_iret rfl rfl dX8_count_41
