/-! links of the constant pools -/
set_option maxRecDepth 100000
theorem lk_X0_7_0 : ∀ k ∈ [0], jk_ RX0 (.invokevirtual 7) yX1_terrace (wsW_ yX1_terrace cX1_terrace 5 (Option.some Jvm.ClassFile.FieldType.int) [(21, 54, 61, 165), (21, 54, 75, 0), (61, 68, 75, 0), (75, 77, 75, 0)]) (2, jw_nm k) 2 := by
  intro k hk
  obtain rfl := so_m1 hk
  exact jk_VW q864 q865 q866 q99 q867 (by decide +kernel) (so_le rfl)
theorem lk_X1_172_0 : ∀ k ∈ [0], jk_ RX1 (.invokevirtual 172) yX1_need (ws_ yX1_need cX1_need 2 (Option.none : Option Jvm.ClassFile.FieldType)) (2, jw_nm k) 2 := by
  intro k hk
  obtain rfl := so_m1 hk
  exact jk_V q869 q871 qs10 q99 q872 (by decide +kernel) (so_le rfl)
theorem nw_X1_176 : jn_ RX1 176 2 6 := ⟨RX10, TX10, tyX10, so_le rfl, rfl, in_X10, tyX10_ok, rfl, (by decide +kernel), q884, q885, q127⟩
theorem lk_X1_178 : jk_ RX1 (.invokespecial 178) yX10_init (ws_ yX10_init cX10_init 3 (Option.none : Option Jvm.ClassFile.FieldType)) (1, "") 3 := jk_I q886 q887 q127 q888 rfl (by decide +kernel) (so_le rfl)
theorem lk_X10_3 : jk_ RX10 (.invokespecial 3) yX9_init (ws_ yX9_init cX9_init 3 (Option.none : Option Jvm.ClassFile.FieldType)) (1, "") 3 := jk_I q889 q890 q126 q891 rfl (by decide +kernel) (so_le rfl)
theorem nw_X10_9 : jn_ RX10 9 1 10 := ⟨RX2, TX2, tyX2, so_le rfl, rfl, in_X2, tyX2_ok, rfl, (by decide +kernel), q893, q158, q100⟩
theorem lk_X10_11 : jk_ RX10 (.invokespecial 11) yX2_init (ws_ yX2_init cX2_init 1 (Option.none : Option Jvm.ClassFile.FieldType)) (1, "") 1 := jk_IN q894 q160 q100 q161 rfl (by decide +kernel) (so_le rfl)
theorem nw_X2_27 : jn_ RX2 27 24 3 := ⟨RJ2, TJ2, tyJ2, so_le rfl, rfl, in_J2, tyJ2_ok, rfl, (by decide +kernel), q163, q164, q103⟩
theorem lk_X2_29 : jk_ RX2 (.invokespecial 29) yJ2_init (ws_ yJ2_init cJ2_init 2 (Option.none : Option Jvm.ClassFile.FieldType)) (1, "") 2 := jk_I q165 q166 q103 q167 rfl (by decide +kernel) (so_le rfl)
theorem lk_J2_1 : jk_ RJ2 (.invokespecial 1) yJ1_init (ws_ yJ1_init cJ1_init 1 (Option.none : Option Jvm.ClassFile.FieldType)) (1, "") 1 := jk_I q168 q169 q102 q170 rfl (by decide +kernel) (so_le rfl)
theorem lk_J1_1 : jk_ RJ1 (.invokespecial 1) yJ0_init (ws_ yJ0_init cJ0_init 1 (Option.none : Option Jvm.ClassFile.FieldType)) (1, "") 1 := jk_I q171 q172 q101 q173 rfl (by decide +kernel) (so_le rfl)
theorem lk_X1_181_2 : ∀ k ∈ [2], jk_ RX1 (.invokevirtual 181) yX10_reads (ws_ yX10_reads cX10_reads 2 (Option.some (Jvm.ClassFile.FieldType.object "TunedHouses$Told"))) (2, jw_nm k) 1 := by
  intro k hk
  obtain rfl := so_m1 hk
  exact jk_V q938 q939 q940 q127 q941 (by decide +kernel) (so_le rfl)
theorem lk_X10_24_2 : ∀ k ∈ [2], jk_ RX10 (.invokevirtual 24) yX9_sign (ws_ yX9_sign cX9_sign 1 (Option.some Jvm.ClassFile.FieldType.int)) (2, jw_nm k) 1 := by
  intro k hk
  obtain rfl := so_m1 hk
  exact jk_U (C := RX10) (owner := "TunedHouses$Reader") q942 q943 q945 q946 q126 q947 rfl (by decide +kernel) (so_le rfl)
theorem lk_X10_35_2 : ∀ k ∈ [2], jk_ RX10 (.invokevirtual 35) yX9_word (ws_ yX9_word cX9_word 3 (Option.some (Jvm.ClassFile.FieldType.object "java/lang/String"))) (2, jw_nm k) 1 := by
  intro k hk
  obtain rfl := so_m1 hk
  exact jk_U (C := RX10) (owner := "TunedHouses$Reader") q948 q949 q951 q952 q126 q953 rfl (by decide +kernel) (so_le rfl)
theorem lk_X9_22_2_5_13_19 : ∀ k ∈ [2, 5, 13, 19], jk_ RX9 (.invokevirtual 22) yX9_sign (ws_ yX9_sign cX9_sign 1 (Option.some Jvm.ClassFile.FieldType.int)) (2, jw_nm k) 1 := by
  intro k hk
  simp only [List.mem_cons, List.not_mem_nil, or_false] at hk
  rcases hk with rfl | rfl | rfl | rfl
  · exact jk_U (C := RX10) (owner := "TunedHouses$Reader") q954 q2546 q2549 q946 q126 q947 rfl (by decide +kernel) (so_le rfl)
  · exact jk_U (C := RX13) (owner := "TunedHouses$Reader") q954 q2546 q2548 q946 q126 q947 rfl (by decide +kernel) (so_le rfl)
  · exact jk_U (C := RX21) (owner := "TunedHouses$Reader") q954 q2546 q2550 q946 q126 q947 rfl (by decide +kernel) (so_le rfl)
  · exact jk_U (C := RX29) (owner := "TunedHouses$Reader") q954 q2546 q2547 q946 q126 q947 rfl (by decide +kernel) (so_le rfl)
theorem nw_X9_26 : jn_ RX9 26 25 4 := ⟨RJ8, TJ8, tyJ8, so_le rfl, rfl, in_J8, tyJ8_ok, rfl, (by decide +kernel), q955, q221, q109⟩
theorem lk_X9_28 : jk_ RX9 (.invokespecial 28) yJ8_init (ws_ yJ8_init cJ8_init 1 (Option.none : Option Jvm.ClassFile.FieldType)) (1, "") 1 := jk_I q956 q223 q109 q224 rfl (by decide +kernel) (so_le rfl)
theorem lk_J8_1 : jk_ RJ8 (.invokespecial 1) yJ7_init (ws_ yJ7_init cJ7_init 2 (Option.none : Option Jvm.ClassFile.FieldType)) (1, "") 2 := jk_I q225 q226 q108 q227 rfl (by decide +kernel) (so_le rfl)
theorem lk_X9_29_25 : ∀ k ∈ [25], jk_ RX9 (.invokevirtual 29) yJ8_length (ws_ yJ8_length cJ8_length 1 (Option.some Jvm.ClassFile.FieldType.int)) (2, jw_nm k) 1 := by
  intro k hk
  obtain rfl := so_m1 hk
  exact jk_V q957 q421 q2551 q109 q422 (by decide +kernel) (so_le rfl)
theorem lk_J8_343 : ∀ k ∈ [25], jk_ RJ8 (.invokespecial 343) yJ7_length (ws_ yJ7_length cJ7_length 1 (Option.some Jvm.ClassFile.FieldType.int)) (2, jw_nm k) 1 := by
  intro k hk
  obtain rfl := so_m1 hk
  exact jk_SU (ci := 25) (q := (RJ8, TJ8, 4)) rfl q423 q419 q250 q418 q108 q424 (by decide +kernel) (so_le rfl)
theorem lk_X9_32_25 : ∀ k ∈ [25], jk_ RX9 (.invokevirtual 32) yJ8_append_3 (ws_ yJ8_append_3 cJ8_append_3 2 (Option.some (Jvm.ClassFile.FieldType.object "java/lang/StringBuilder"))) (2, jw_nm k) 2 := by
  intro k hk
  obtain rfl := so_m1 hk
  exact jk_V q958 q959 q960 q109 q961 (by decide +kernel) (so_le rfl)
theorem lk_J8_50 : ∀ k ∈ [25], jk_ RJ8 (.invokespecial 50) yJ7_append_3 (ws_ yJ7_append_3 cJ7_append_3 2 (Option.some (Jvm.ClassFile.FieldType.object "java/lang/AbstractStringBuilder"))) (2, jw_nm k) 2 := by
  intro k hk
  obtain rfl := so_m1 hk
  exact jk_SU (ci := 25) (q := (RJ8, TJ8, 4)) rfl q962 q2552 q250 q963 q108 q964 (by decide +kernel) (so_le rfl)
theorem lk_J7_100_25 : ∀ k ∈ [25], jk_ RJ7 (.invokevirtual 100) yJ7_ensureCapacityInternal (ws_ yJ7_ensureCapacityInternal cJ7_ensureCapacityInternal 3 (Option.none : Option Jvm.ClassFile.FieldType)) (2, jw_nm k) 2 := by
  intro k hk
  obtain rfl := so_m1 hk
  exact jk_UP rfl q265 q2540 q267 q108 q268 (by decide +kernel) (so_le rfl)
theorem lk_J7_83_25 : ∀ k ∈ [25], jk_ RJ7 (.invokevirtual 83) yJ7_isLatin1 (ws_ yJ7_isLatin1 cJ7_isLatin1 1 (Option.some Jvm.ClassFile.FieldType.boolean)) (2, jw_nm k) 1 := by
  intro k hk
  obtain rfl := so_m1 hk
  exact jk_U (C := RJ8) (owner := "java/lang/AbstractStringBuilder") q300 q302 q303 q301 q108 q304 rfl (by decide +kernel) (so_le rfl)
theorem lk_J7_191 : jk_ RJ7 (.invokestatic 191) yJ15_canEncode (ws_ yJ15_canEncode cJ15_canEncode 1 (Option.some Jvm.ClassFile.FieldType.boolean)) (0, "") 1 := jk_S q965 q966 q117 q967 (by decide +kernel) (so_le rfl)
theorem lk_X9_36_25 : ∀ k ∈ [25], jk_ RX9 (.invokevirtual 36) yJ8_toString (ws_ yJ8_toString cJ8_toString 1 (Option.some (Jvm.ClassFile.FieldType.object "java/lang/String"))) (2, jw_nm k) 1 := by
  intro k hk
  obtain rfl := so_m1 hk
  exact jk_V q978 q400 q401 q109 q402 (by decide +kernel) (so_le rfl)
theorem nw_J8_18 : jn_ RJ8 18 26 4 := ⟨RJ9, TJ9, tyJ9, so_le rfl, rfl, in_J9, tyJ9_ok, rfl, (by decide +kernel), q403, q404, q110⟩
theorem lk_J8_137 : jk_ RJ8 (.invokespecial 137) yJ9_init (ws_ yJ9_init cJ9_init 2 (Option.none : Option Jvm.ClassFile.FieldType)) (1, "") 2 := jk_I q405 q406 q110 q407 rfl (by decide +kernel) (so_le rfl)
theorem lk_J9_489 : jk_ RJ9 (.invokespecial 489) yJ9_init_2 (ws_ yJ9_init_2 cJ9_init_2 5 (Option.none : Option Jvm.ClassFile.FieldType)) (1, "") 3 := jk_I q408 q409 q110 q410 rfl (by decide +kernel) (so_le rfl)
theorem lk_J9_552_25 : ∀ k ∈ [25], jk_ RJ9 (.invokevirtual 552) yJ7_getValue (ws_ yJ7_getValue cJ7_getValue 1 (Option.some (Jvm.ClassFile.FieldType.array Jvm.ClassFile.FieldType.byte))) (2, jw_nm k) 1 := by
  intro k hk
  obtain rfl := so_m1 hk
  exact jk_U (C := RJ8) (owner := "java/lang/AbstractStringBuilder") q412 q414 q415 q413 q108 q416 rfl (by decide +kernel) (so_le rfl)
theorem lk_J9_549_25 : ∀ k ∈ [25], jk_ RJ9 (.invokevirtual 549) yJ8_length (ws_ yJ8_length cJ8_length 1 (Option.some Jvm.ClassFile.FieldType.int)) (2, jw_nm k) 1 := by
  intro k hk
  obtain rfl := so_m1 hk
  exact jk_O (C := RJ8) (owner := "java/lang/AbstractStringBuilder") q417 q419 q418 q424 q420 q421 q109 q422 (by decide +kernel) (so_le rfl)
theorem lk_J9_1047_25 : ∀ k ∈ [25], jk_ RJ9 (.invokevirtual 1047) yJ7_isLatin1 (ws_ yJ7_isLatin1 cJ7_isLatin1 1 (Option.some Jvm.ClassFile.FieldType.boolean)) (2, jw_nm k) 1 := by
  intro k hk
  obtain rfl := so_m1 hk
  exact jk_U (C := RJ8) (owner := "java/lang/AbstractStringBuilder") q425 q302 q303 q301 q108 q304 rfl (by decide +kernel) (so_le rfl)
theorem lk_J9_54 : jk_ RJ9 (.invokestatic 54) yJ13_copyOfRange (ws_ yJ13_copyOfRange cJ13_copyOfRange 3 (Option.some (Jvm.ClassFile.FieldType.array Jvm.ClassFile.FieldType.byte))) (0, "") 3 := jk_S q426 q427 q114 q428 (by decide +kernel) (so_le rfl)
theorem lk_J13_339 : jk_ RJ13 (.invokestatic 339) yJ13_copyOfRangeByte (ws_ yJ13_copyOfRangeByte cJ13_copyOfRangeByte 5 (Option.some (Jvm.ClassFile.FieldType.array Jvm.ClassFile.FieldType.byte))) (0, "") 3 := jk_S q429 q430 q114 q431 (by decide +kernel) (so_le rfl)
theorem lk_J13_343 : jk_ RJ13 (.invokestatic 343) yJ13_checkLength (ws_ yJ13_checkLength cJ13_checkLength 2 (Option.none : Option Jvm.ClassFile.FieldType)) (0, "") 2 := jk_S q432 q433 q114 q434 (by decide +kernel) (so_le rfl)
theorem lk_J13_304 : jk_ RJ13 (.invokestatic 304) yJ12_min (ws_ yJ12_min cJ12_min 2 (Option.some Jvm.ClassFile.FieldType.int)) (0, "") 2 := jk_S q294 q295 q113 q296 (by decide +kernel) (so_le rfl)
theorem lk_X10_39_2 : ∀ k ∈ [2], jk_ RX10 (.invokevirtual 39) yX10_clause (ws_ yX10_clause cX10_clause 6 (Option.none : Option Jvm.ClassFile.FieldType)) (2, jw_nm k) 2 := by
  intro k hk
  obtain rfl := so_m1 hk
  exact jk_V q979 q981 qs11 q127 q982 (by decide +kernel) (so_le rfl)
theorem lk_X10_50_26 : ∀ k ∈ [26], jk_ RX10 (.invokevirtual 50) yJ9_hashCode (ws_ yJ9_hashCode cJ9_hashCode 2 (Option.some Jvm.ClassFile.FieldType.int)) (2, jw_nm k) 1 := by
  intro k hk
  obtain rfl := so_m1 hk
  exact jk_V q983 q984 q985 q110 q986 (by decide +kernel) (so_le rfl)
theorem lk_J9_492_26 : ∀ k ∈ [26], jk_ RJ9 (.invokevirtual 492) yJ9_isLatin1 (ws_ yJ9_isLatin1 cJ9_isLatin1 1 (Option.some Jvm.ClassFile.FieldType.boolean)) (2, jw_nm k) 1 := by
  intro k hk
  obtain rfl := so_m1 hk
  exact jk_V q987 q988 q989 q110 q990 (by decide +kernel) (so_le rfl)
theorem lk_J9_628 : jk_ RJ9 (.invokestatic 628) yJ15_hashCode (ws_ yJ15_hashCode cJ15_hashCode 1 (Option.some Jvm.ClassFile.FieldType.int)) (0, "") 1 := jk_S q991 q992 q117 q993 (by decide +kernel) (so_le rfl)
theorem lk_J15_84 : jk_ RJ15 (.invokestatic 84) yJ11_vectorizedHashCode (ws_ yJ11_vectorizedHashCode cJ11_vectorizedHashCode 5 (Option.some Jvm.ClassFile.FieldType.int)) (0, "") 5 := jk_S q994 q995 q112 q996 (by decide +kernel) (so_le rfl)
theorem lk_J11_62 : jk_ RJ11 (.invokestatic 62) yJ11_signedHashCode (ws_ yJ11_signedHashCode cJ11_signedHashCode 6 (Option.some Jvm.ClassFile.FieldType.int)) (0, "") 4 := jk_S q998 q999 q112 q1000 (by decide +kernel) (so_le rfl)
theorem lk_X10_57_26 : ∀ k ∈ [26], jk_ RX10 (.invokevirtual 57) yJ9_equals (ws_ yJ9_equals cJ9_equals 3 (Option.some Jvm.ClassFile.FieldType.boolean)) (2, jw_nm k) 2 := by
  intro k hk
  obtain rfl := so_m1 hk
  exact jk_V q1045 q1046 q1047 q110 q1048 (by decide +kernel) (so_le rfl)
theorem lk_J9_541 : jk_ RJ9 (.invokestatic 541) yJ15_equals (ws_ yJ15_equals cJ15_equals 3 (Option.some Jvm.ClassFile.FieldType.boolean)) (0, "") 2 := jk_S q1050 q1051 q117 q1052 (by decide +kernel) (so_le rfl)
theorem lk_X10_90_2 : ∀ k ∈ [2], jk_ RX10 (.invokevirtual 90) yX10_isFull (ws_ yX10_isFull cX10_isFull 4 (Option.some Jvm.ClassFile.FieldType.boolean)) (2, jw_nm k) 2 := by
  intro k hk
  obtain rfl := so_m1 hk
  exact jk_V q1091 q1093 qs12 q127 q1094 (by decide +kernel) (so_le rfl)
theorem lk_X10_75_24 : ∀ k ∈ [24], jk_ RX10 (.invokevirtual 75) yJ2_size (ws_ yJ2_size cJ2_size 1 (Option.some Jvm.ClassFile.FieldType.int)) (2, jw_nm k) 1 := by
  intro k hk
  obtain rfl := so_m1 hk
  exact jk_V q1095 q780 q781 q103 q782 (by decide +kernel) (so_le rfl)
theorem nw_X10_94 : jn_ RX10 94 3 8 := ⟨RX11, TX11, tyX11, so_le rfl, rfl, in_X11, tyX11_ok, rfl, (by decide +kernel), q1096, q1064, q128⟩
theorem lk_X10_96 : jk_ RX10 (.invokespecial 96) yX11_init (ws_ yX11_init cX11_init 3 (Option.none : Option Jvm.ClassFile.FieldType)) (1, "") 3 := jk_I q1097 q1073 q128 q1074 rfl (by decide +kernel) (so_le rfl)
theorem lk_X11_1 : jk_ RX11 (.invokespecial 1) yJ4_init_3 (ws_ yJ4_init_3 cJ4_init_3 5 (Option.none : Option Jvm.ClassFile.FieldType)) (1, "") 5 := jk_I q1075 q1076 q105 q1077 rfl (by decide +kernel) (so_le rfl)
theorem lk_J4_16 : jk_ RJ4 (.invokespecial 16) yJ3_init_3 (ws_ yJ3_init_3 cJ3_init_3 5 (Option.none : Option Jvm.ClassFile.FieldType)) (1, "") 5 := jk_I q1078 q1079 q104 q1080 rfl (by decide +kernel) (so_le rfl)
theorem lk_X10_99_26 : ∀ k ∈ [26], jk_ RX10 (.invokevirtual 99) yJ9_length (ws_ yJ9_length cJ9_length 1 (Option.some Jvm.ClassFile.FieldType.int)) (2, jw_nm k) 1 := by
  intro k hk
  obtain rfl := so_m1 hk
  exact jk_V q1098 q332 q333 q110 q334 (by decide +kernel) (so_le rfl)
theorem lk_J9_335_26 : ∀ k ∈ [26], jk_ RJ9 (.invokevirtual 335) yJ9_coder (ws_ yJ9_coder cJ9_coder 1 (Option.some Jvm.ClassFile.FieldType.byte)) (2, jw_nm k) 1 := by
  intro k hk
  obtain rfl := so_m1 hk
  exact jk_V q335 q336 q337 q110 q338 (by decide +kernel) (so_le rfl)
theorem lk_X10_107_2 : ∀ k ∈ [2], jk_ RX10 (.invokevirtual 107) yX10_house (ws_ yX10_house cX10_house 1 (Option.some Jvm.ClassFile.FieldType.int)) (2, jw_nm k) 1 := by
  intro k hk
  obtain rfl := so_m1 hk
  exact jk_V q1112 q1114 qs14 q127 q1115 (by decide +kernel) (so_le rfl)
theorem lk_X10_79_2 : ∀ k ∈ [2], jk_ RX10 (.invokevirtual 79) yX9_number (ws_ yX9_number cX9_number 5 (Option.some Jvm.ClassFile.FieldType.int)) (2, jw_nm k) 3 := by
  intro k hk
  obtain rfl := so_m1 hk
  exact jk_U (C := RX10) (owner := "TunedHouses$Reader") q1103 q1104 q1106 q1107 q126 q1108 rfl (by decide +kernel) (so_le rfl)
theorem lk_X9_56 : jk_ RX9 (.invokestatic 56) yJ12_min (ws_ yJ12_min cJ12_min 2 (Option.some Jvm.ClassFile.FieldType.int)) (0, "") 2 := jk_S q1111 q295 q113 q296 (by decide +kernel) (so_le rfl)
theorem nw_X9_40 : jn_ RX9 40 3 8 := ⟨RX11, TX11, tyX11, so_le rfl, rfl, in_X11, tyX11_ok, rfl, (by decide +kernel), q1063, q1064, q128⟩
theorem lk_X9_42 : jk_ RX9 (.invokespecial 42) yX11_init (ws_ yX11_init cX11_init 3 (Option.none : Option Jvm.ClassFile.FieldType)) (1, "") 3 := jk_I q1072 q1073 q128 q1074 rfl (by decide +kernel) (so_le rfl)
theorem lk_X9_45_2_5_13_19 : ∀ k ∈ [2, 5, 13, 19], jk_ RX9 (.invokevirtual 45) yX9_wrong (ws_ yX9_wrong cX9_wrong 1 (Option.some (Jvm.ClassFile.FieldType.object "TunedHouses$Wrong"))) (2, jw_nm k) 1 := by
  intro k hk
  simp only [List.mem_cons, List.not_mem_nil, or_false] at hk
  rcases hk with rfl | rfl | rfl | rfl
  · exact jk_U (C := RX10) (owner := "TunedHouses$Reader") q1109 q2553 q2556 q1061 q126 q1062 rfl (by decide +kernel) (so_le rfl)
  · exact jk_U (C := RX13) (owner := "TunedHouses$Reader") q1109 q2553 q2555 q1061 q126 q1062 rfl (by decide +kernel) (so_le rfl)
  · exact jk_U (C := RX21) (owner := "TunedHouses$Reader") q1109 q2553 q2557 q1061 q126 q1062 rfl (by decide +kernel) (so_le rfl)
  · exact jk_U (C := RX29) (owner := "TunedHouses$Reader") q1109 q2553 q2554 q1061 q126 q1062 rfl (by decide +kernel) (so_le rfl)
theorem lk_X10_105_2 : ∀ k ∈ [2], jk_ RX10 (.invokevirtual 105) yX10_thing (ws_ yX10_thing cX10_thing 1 (Option.some Jvm.ClassFile.FieldType.int)) (2, jw_nm k) 1 := by
  intro k hk
  obtain rfl := so_m1 hk
  exact jk_V q1099 q1101 qs13 q127 q1102 (by decide +kernel) (so_le rfl)
theorem nw_X10_118 : jn_ RX10 118 4 2 := ⟨RX12, TX12, tyX12, so_le rfl, rfl, in_X12, tyX12_ok, rfl, (by decide +kernel), q1120, q1121, q129⟩
theorem lk_X10_120 : jk_ RX10 (.invokespecial 120) yX12_init (ws_ yX12_init cX12_init 3 (Option.none : Option Jvm.ClassFile.FieldType)) (1, "") 3 := jk_I q1122 q1123 q129 q1124 rfl (by decide +kernel) (so_le rfl)
theorem lk_X10_121_24 : ∀ k ∈ [24], jk_ RX10 (.invokevirtual 121) yJ2_add (ws_ yJ2_add cJ2_add 2 (Option.some Jvm.ClassFile.FieldType.boolean)) (2, jw_nm k) 2 := by
  intro k hk
  obtain rfl := so_m1 hk
  exact jk_V q1137 q1138 q1139 q103 q1140 (by decide +kernel) (so_le rfl)
theorem lk_J2_131_24 : ∀ k ∈ [24], jk_ RJ2 (.invokevirtual 131) yJ2_add_2 (ws_ yJ2_add_2 cJ2_add_2 4 (Option.none : Option Jvm.ClassFile.FieldType)) (2, jw_nm k) 4 := by
  intro k hk
  obtain rfl := so_m1 hk
  exact jk_V q1141 q1143 qs15 q103 q1144 (by decide +kernel) (so_le rfl)
theorem lk_J2_129_24 : ∀ k ∈ [24], jk_ RJ2 (.invokevirtual 129) yJ2_grow (ws_ yJ2_grow cJ2_grow 1 (Option.some (Jvm.ClassFile.FieldType.array (Jvm.ClassFile.FieldType.object "java/lang/Object")))) (2, jw_nm k) 1 := by
  intro k hk
  obtain rfl := so_m1 hk
  exact jk_V q1145 q1147 qs16 q103 q1148 (by decide +kernel) (so_le rfl)
theorem lk_J2_69_24 : ∀ k ∈ [24], jk_ RJ2 (.invokevirtual 69) yJ2_grow_2 (ws_ yJ2_grow_2 cJ2_grow_2 4 (Option.some (Jvm.ClassFile.FieldType.array (Jvm.ClassFile.FieldType.object "java/lang/Object")))) (2, jw_nm k) 2 := by
  intro k hk
  obtain rfl := so_m1 hk
  exact jk_V q1149 q1151 qs17 q103 q1152 (by decide +kernel) (so_le rfl)
theorem lk_J2_73 : jk_ RJ2 (.invokestatic 73) yJ11_newLength (ws_ yJ11_newLength cJ11_newLength 4 (Option.some Jvm.ClassFile.FieldType.int)) (0, "") 3 := jk_S q1155 q274 q112 q275 (by decide +kernel) (so_le rfl)
theorem lk_J11_194 : jk_ RJ11 (.invokestatic 194) yJ12_max (ws_ yJ12_max cJ12_max 2 (Option.some Jvm.ClassFile.FieldType.int)) (0, "") 2 := jk_S q276 q277 q113 q278 (by decide +kernel) (so_le rfl)
theorem lk_J2_66 : jk_ RJ2 (.invokestatic 66) yJ13_copyOf_2 (ws_ yJ13_copyOf_2 cJ13_copyOf_2 2 (Option.some (Jvm.ClassFile.FieldType.array (Jvm.ClassFile.FieldType.object "java/lang/Object")))) (0, "") 2 := jk_S q1156 q1157 q114 q1158 (by decide +kernel) (so_le rfl)
theorem lk_J13_300 : jk_ RJ13 (.invokestatic 300) yJ13_copyOf_3 (ws_ yJ13_copyOf_3 cJ13_copyOf_3 4 (Option.some (Jvm.ClassFile.FieldType.array (Jvm.ClassFile.FieldType.object "java/lang/Object")))) (0, "") 3 := jk_S q1193 q1194 q114 q1195 (by decide +kernel) (so_le rfl)
theorem lk_X10_115_1 : ∀ k ∈ [1], jk_ RX10 (.invokevirtual 115) yX2_parts (ws_ yX2_parts cX2_parts 3 (Option.none : Option Jvm.ClassFile.FieldType)) (2, jw_nm k) 3 := by
  intro k hk
  obtain rfl := so_m1 hk
  exact jk_V q1116 q1117 q1118 q100 q1119 (by decide +kernel) (so_le rfl)
theorem lk_X10_86_2 : ∀ k ∈ [2], jk_ RX10 (.invokevirtual 86) yX9_wrong (ws_ yX9_wrong cX9_wrong 1 (Option.some (Jvm.ClassFile.FieldType.object "TunedHouses$Wrong"))) (2, jw_nm k) 1 := by
  intro k hk
  obtain rfl := so_m1 hk
  exact jk_U (C := RX10) (owner := "TunedHouses$Reader") q1057 q1058 q1060 q1061 q126 q1062 rfl (by decide +kernel) (so_le rfl)
theorem lk_X10_43_2 : ∀ k ∈ [2], jk_ RX10 (.invokevirtual 43) yX9_need (ws_ yX9_need cX9_need 2 (Option.none : Option Jvm.ClassFile.FieldType)) (2, jw_nm k) 2 := by
  intro k hk
  obtain rfl := so_m1 hk
  exact jk_U (C := RX10) (owner := "TunedHouses$Reader") q1199 q1200 q1202 q1203 q126 q1204 rfl (by decide +kernel) (so_le rfl)
theorem lk_X1_185_0 : ∀ k ∈ [0], jk_ RX1 (.invokevirtual 185) yX1_failed (ws_ yX1_failed cX1_failed 2 (Option.some Jvm.ClassFile.FieldType.int)) (2, jw_nm k) 2 := by
  intro k hk
  obtain rfl := so_m1 hk
  exact jk_V q1205 q1207 qs18 q99 q1208 (by decide +kernel) (so_le rfl)
theorem lk_X1_94_0 : ∀ k ∈ [0], jk_ RX1 (.invokevirtual 94) yX1_begins (ws_ yX1_begins cX1_begins 2 (Option.none : Option Jvm.ClassFile.FieldType)) (2, jw_nm k) 1 := by
  intro k hk
  obtain rfl := so_m1 hk
  exact jk_V q641 q643 qs1 q99 q644 (by decide +kernel) (so_le rfl)
theorem lk_X1_26 : jk_ RX1 (.invokestatic 26) yX1_custom (ws_ yX1_custom cX1_custom 0 (Option.some (Jvm.ClassFile.FieldType.object "TunedHouses$Term"))) (0, "") 0 := jk_S q557 q558 q99 q559 (by decide +kernel) (so_le rfl)
theorem nw_X1_3 : jn_ RX1 3 20 2 := ⟨RX5, TX5, tyX5, so_le rfl, rfl, in_X5, tyX5_ok, rfl, (by decide +kernel), q560, q561, q122⟩
theorem nw_X1_5 : jn_ RX1 5 21 1 := ⟨RX6, TX6, tyX6, so_le rfl, rfl, in_X6, tyX6_ok, rfl, (by decide +kernel), q562, q563, q123⟩
theorem lk_X1_7 : jk_ RX1 (.invokespecial 7) yX6_init (ws_ yX6_init cX6_init 2 (Option.none : Option Jvm.ClassFile.FieldType)) (1, "") 2 := jk_I q564 q565 q123 q566 rfl (by decide +kernel) (so_le rfl)
theorem lk_X6_1 : jk_ RX6 (.invokespecial 1) yX3_init (ws_ yX3_init cX3_init 1 (Option.none : Option Jvm.ClassFile.FieldType)) (1, "") 1 := jk_IN q567 q568 q120 q569 rfl (by decide +kernel) (so_le rfl)
theorem lk_X1_11 : jk_ RX1 (.invokespecial 11) yX5_init (ws_ yX5_init cX5_init 3 (Option.none : Option Jvm.ClassFile.FieldType)) (1, "") 3 := jk_I q575 q576 q122 q577 rfl (by decide +kernel) (so_le rfl)
theorem lk_X5_1 : jk_ RX5 (.invokespecial 1) yX4_init (ws_ yX4_init cX4_init 3 (Option.none : Option Jvm.ClassFile.FieldType)) (1, "") 3 := jk_I q578 q579 q121 q580 rfl (by decide +kernel) (so_le rfl)
theorem lk_X4_1 : jk_ RX4 (.invokespecial 1) yX3_init (ws_ yX3_init cX3_init 1 (Option.none : Option Jvm.ClassFile.FieldType)) (1, "") 1 := jk_IN q581 q568 q120 q569 rfl (by decide +kernel) (so_le rfl)
theorem lk_X1_97_22 : ∀ k ∈ [22], jk_ RX1 (.invokevirtual 97) yX7_begins (ws_ yX7_begins cX7_begins 2 (Option.some (Jvm.ClassFile.FieldType.object "TunedHouses$Terrace"))) (2, jw_nm k) 1 := by
  intro k hk
  obtain rfl := so_m1 hk
  exact jk_V q645 q646 q647 q124 q648 (by decide +kernel) (so_le rfl)
theorem lk_X1_156_0 : ∀ k ∈ [0], jk_ RX1 (.invokevirtual 156) yX1_pianos (ws_ yX1_pianos cX1_pianos 1 (Option.some Jvm.ClassFile.FieldType.int)) (2, jw_nm k) 1 := by
  intro k hk
  obtain rfl := so_m1 hk
  exact jk_V q795 q777 qs3 q99 q778 (by decide +kernel) (so_le rfl)
theorem lk_X1_116_24 : ∀ k ∈ [24], jk_ RX1 (.invokevirtual 116) yJ2_size (ws_ yJ2_size cJ2_size 1 (Option.some Jvm.ClassFile.FieldType.int)) (2, jw_nm k) 1 := by
  intro k hk
  obtain rfl := so_m1 hk
  exact jk_V q779 q780 q781 q103 q782 (by decide +kernel) (so_le rfl)
theorem lk_X0_15_0 : ∀ k ∈ [0], jk_ RX0 (.invokevirtual 15) yX1_law (wsW_ yX1_law cX1_law 5 (Option.some Jvm.ClassFile.FieldType.int) [(28, 54, 61, 165), (28, 54, 75, 0), (61, 68, 75, 0), (75, 77, 75, 0)]) (2, jw_nm k) 2 := by
  intro k hk
  obtain rfl := so_m1 hk
  exact jk_VW q1212 q1213 q1214 q99 q1215 (by decide +kernel) (so_le rfl)
theorem nw_X1_189 : jn_ RX1 189 5 5 := ⟨RX13, TX13, tyX13, so_le rfl, rfl, in_X13, tyX13_ok, rfl, (by decide +kernel), q1216, q1217, q130⟩
theorem lk_X1_191 : jk_ RX1 (.invokespecial 191) yX13_init (ws_ yX13_init cX13_init 3 (Option.none : Option Jvm.ClassFile.FieldType)) (1, "") 3 := jk_I q1218 q1219 q130 q1220 rfl (by decide +kernel) (so_le rfl)
theorem lk_X13_3 : jk_ RX13 (.invokespecial 3) yX9_init (ws_ yX9_init cX9_init 3 (Option.none : Option Jvm.ClassFile.FieldType)) (1, "") 3 := jk_I q1221 q890 q126 q891 rfl (by decide +kernel) (so_le rfl)
theorem lk_X1_192_5 : ∀ k ∈ [5], jk_ RX1 (.invokevirtual 192) yX13_reads (ws_ yX13_reads cX13_reads 2 (Option.some (Jvm.ClassFile.FieldType.object "TunedHouses$Term"))) (2, jw_nm k) 1 := by
  intro k hk
  obtain rfl := so_m1 hk
  exact jk_V q1228 q1229 q1230 q130 q1231 (by decide +kernel) (so_le rfl)
theorem lk_X13_9_5 : ∀ k ∈ [5], jk_ RX13 (.invokevirtual 9) yX13_sum (ws_ yX13_sum cX13_sum 4 (Option.some (Jvm.ClassFile.FieldType.object "TunedHouses$Term"))) (2, jw_nm k) 1 := by
  intro k hk
  obtain rfl := so_m1 hk
  exact jk_V q1232 q1234 qs19 q130 q1235 (by decide +kernel) (so_le rfl)
theorem lk_X13_30_5 : ∀ k ∈ [5], jk_ RX13 (.invokevirtual 30) yX13_product (ws_ yX13_product cX13_product 4 (Option.some (Jvm.ClassFile.FieldType.object "TunedHouses$Term"))) (2, jw_nm k) 1 := by
  intro k hk
  obtain rfl := so_m1 hk
  exact jk_V q1236 q1238 qs20 q130 q1239 (by decide +kernel) (so_le rfl)
theorem lk_X13_41_5 : ∀ k ∈ [5], jk_ RX13 (.invokevirtual 41) yX13_unit (ws_ yX13_unit cX13_unit 5 (Option.some (Jvm.ClassFile.FieldType.object "TunedHouses$Term"))) (2, jw_nm k) 1 := by
  intro k hk
  obtain rfl := so_m1 hk
  exact jk_V q1240 q1242 qs21 q130 q1243 (by decide +kernel) (so_le rfl)
theorem lk_X13_15_5 : ∀ k ∈ [5], jk_ RX13 (.invokevirtual 15) yX9_sign (ws_ yX9_sign cX9_sign 1 (Option.some Jvm.ClassFile.FieldType.int)) (2, jw_nm k) 1 := by
  intro k hk
  obtain rfl := so_m1 hk
  exact jk_U (C := RX13) (owner := "TunedHouses$Reader") q1244 q1245 q1246 q946 q126 q947 rfl (by decide +kernel) (so_le rfl)
theorem lk_X13_53_5 : ∀ k ∈ [5], jk_ RX13 (.invokevirtual 53) yX9_opens (ws_ yX9_opens cX9_opens 2 (Option.none : Option Jvm.ClassFile.FieldType)) (2, jw_nm k) 2 := by
  intro k hk
  obtain rfl := so_m1 hk
  exact jk_U (C := RX13) (owner := "TunedHouses$Reader") q1247 q1248 q1250 q1251 q126 q1252 rfl (by decide +kernel) (so_le rfl)
theorem lk_X13_57_5 : ∀ k ∈ [5], jk_ RX13 (.invokevirtual 57) yX9_need (ws_ yX9_need cX9_need 2 (Option.none : Option Jvm.ClassFile.FieldType)) (2, jw_nm k) 2 := by
  intro k hk
  obtain rfl := so_m1 hk
  exact jk_U (C := RX13) (owner := "TunedHouses$Reader") q1253 q1254 q1255 q1203 q126 q1204 rfl (by decide +kernel) (so_le rfl)
theorem nw_X13_63 : jn_ RX13 63 6 1 := ⟨RX14, TX14, tyX14, so_le rfl, rfl, in_X14, tyX14_ok, rfl, (by decide +kernel), q1256, q1257, q131⟩
theorem lk_X13_65_5 : ∀ k ∈ [5], jk_ RX13 (.invokevirtual 65) yX9_number (ws_ yX9_number cX9_number 5 (Option.some Jvm.ClassFile.FieldType.int)) (2, jw_nm k) 3 := by
  intro k hk
  obtain rfl := so_m1 hk
  exact jk_U (C := RX13) (owner := "TunedHouses$Reader") q1258 q1259 q1260 q1107 q126 q1108 rfl (by decide +kernel) (so_le rfl)
theorem lk_X13_69 : jk_ RX13 (.invokespecial 69) yX14_init (ws_ yX14_init cX14_init 2 (Option.none : Option Jvm.ClassFile.FieldType)) (1, "") 2 := jk_I q1261 q1262 q131 q1263 rfl (by decide +kernel) (so_le rfl)
theorem lk_X14_1 : jk_ RX14 (.invokespecial 1) yX3_init (ws_ yX3_init cX3_init 1 (Option.none : Option Jvm.ClassFile.FieldType)) (1, "") 1 := jk_IN q1264 q568 q120 q569 rfl (by decide +kernel) (so_le rfl)
theorem lk_X13_71_5 : ∀ k ∈ [5], jk_ RX13 (.invokevirtual 71) yX9_word (ws_ yX9_word cX9_word 3 (Option.some (Jvm.ClassFile.FieldType.object "java/lang/String"))) (2, jw_nm k) 1 := by
  intro k hk
  obtain rfl := so_m1 hk
  exact jk_U (C := RX13) (owner := "TunedHouses$Reader") q1269 q1270 q1271 q952 q126 q953 rfl (by decide +kernel) (so_le rfl)
theorem lk_X13_75_26 : ∀ k ∈ [26], jk_ RX13 (.invokevirtual 75) yJ9_hashCode (ws_ yJ9_hashCode cJ9_hashCode 2 (Option.some Jvm.ClassFile.FieldType.int)) (2, jw_nm k) 1 := by
  intro k hk
  obtain rfl := so_m1 hk
  exact jk_V q1272 q984 q985 q110 q986 (by decide +kernel) (so_le rfl)
theorem lk_X13_82_26 : ∀ k ∈ [26], jk_ RX13 (.invokevirtual 82) yJ9_equals (ws_ yJ9_equals cJ9_equals 3 (Option.some Jvm.ClassFile.FieldType.boolean)) (2, jw_nm k) 2 := by
  intro k hk
  obtain rfl := so_m1 hk
  exact jk_V q1274 q1046 q1047 q110 q1048 (by decide +kernel) (so_le rfl)
theorem lk_X13_107_5 : ∀ k ∈ [5], jk_ RX13 (.invokevirtual 107) yX13_two (ws_ yX13_two cX13_two 4 (Option.some (Jvm.ClassFile.FieldType.object "TunedHouses$Term"))) (2, jw_nm k) 2 := by
  intro k hk
  obtain rfl := so_m1 hk
  exact jk_V q1291 q1293 qs23 q130 q1294 (by decide +kernel) (so_le rfl)
theorem lk_X13_111_26 : ∀ k ∈ [26], jk_ RX13 (.invokevirtual 111) yJ9_length (ws_ yJ9_length cJ9_length 1 (Option.some Jvm.ClassFile.FieldType.int)) (2, jw_nm k) 1 := by
  intro k hk
  obtain rfl := so_m1 hk
  exact jk_V q1288 q332 q333 q110 q334 (by decide +kernel) (so_le rfl)
theorem nw_X13_117 : jn_ RX13 117 7 2 := ⟨RX15, TX15, tyX15, so_le rfl, rfl, in_X15, tyX15_ok, rfl, (by decide +kernel), q1295, q1296, q132⟩
theorem lk_X13_119 : jk_ RX13 (.invokespecial 119) yX15_init (ws_ yX15_init cX15_init 3 (Option.none : Option Jvm.ClassFile.FieldType)) (1, "") 3 := jk_I q1297 q1298 q132 q1299 rfl (by decide +kernel) (so_le rfl)
theorem lk_X15_1 : jk_ RX15 (.invokespecial 1) yX4_init (ws_ yX4_init cX4_init 3 (Option.none : Option Jvm.ClassFile.FieldType)) (1, "") 3 := jk_I q1300 q579 q121 q580 rfl (by decide +kernel) (so_le rfl)
theorem nw_X13_120 : jn_ RX13 120 8 2 := ⟨RX16, TX16, tyX16, so_le rfl, rfl, in_X16, tyX16_ok, rfl, (by decide +kernel), q1304, q1305, q133⟩
theorem lk_X13_122 : jk_ RX13 (.invokespecial 122) yX16_init (ws_ yX16_init cX16_init 3 (Option.none : Option Jvm.ClassFile.FieldType)) (1, "") 3 := jk_I q1306 q1307 q133 q1308 rfl (by decide +kernel) (so_le rfl)
theorem lk_X16_1 : jk_ RX16 (.invokespecial 1) yX4_init (ws_ yX4_init cX4_init 3 (Option.none : Option Jvm.ClassFile.FieldType)) (1, "") 3 := jk_I q1309 q579 q121 q580 rfl (by decide +kernel) (so_le rfl)
theorem lk_X13_103_5 : ∀ k ∈ [5], jk_ RX13 (.invokevirtual 103) yX13_fact (ws_ yX13_fact cX13_fact 3 (Option.some (Jvm.ClassFile.FieldType.object "TunedHouses$Term"))) (2, jw_nm k) 3 := by
  intro k hk
  obtain rfl := so_m1 hk
  exact jk_V q1284 q1286 qs22 q130 q1287 (by decide +kernel) (so_le rfl)
theorem nw_X13_114 : jn_ RX13 114 21 1 := ⟨RX6, TX6, tyX6, so_le rfl, rfl, in_X6, tyX6_ok, rfl, (by decide +kernel), q1289, q563, q123⟩
theorem lk_X13_116 : jk_ RX13 (.invokespecial 116) yX6_init (ws_ yX6_init cX6_init 2 (Option.none : Option Jvm.ClassFile.FieldType)) (1, "") 2 := jk_I q1290 q565 q123 q566 rfl (by decide +kernel) (so_le rfl)
theorem lk_X13_26_5 : ∀ k ∈ [5], jk_ RX13 (.invokevirtual 26) yX9_wrong (ws_ yX9_wrong cX9_wrong 1 (Option.some (Jvm.ClassFile.FieldType.object "TunedHouses$Wrong"))) (2, jw_nm k) 1 := by
  intro k hk
  obtain rfl := so_m1 hk
  exact jk_U (C := RX13) (owner := "TunedHouses$Reader") q1313 q1314 q1315 q1061 q126 q1062 rfl (by decide +kernel) (so_le rfl)
theorem nw_X13_44 : jn_ RX13 44 9 2 := ⟨RX17, TX17, tyX17, so_le rfl, rfl, in_X17, tyX17_ok, rfl, (by decide +kernel), q1316, q1317, q134⟩
theorem lk_X13_46 : jk_ RX13 (.invokespecial 46) yX17_init (ws_ yX17_init cX17_init 3 (Option.none : Option Jvm.ClassFile.FieldType)) (1, "") 3 := jk_I q1318 q1319 q134 q1320 rfl (by decide +kernel) (so_le rfl)
theorem lk_X17_1 : jk_ RX17 (.invokespecial 1) yX4_init (ws_ yX4_init cX4_init 3 (Option.none : Option Jvm.ClassFile.FieldType)) (1, "") 3 := jk_I q1321 q579 q121 q580 rfl (by decide +kernel) (so_le rfl)
theorem nw_X13_47 : jn_ RX13 47 10 2 := ⟨RX18, TX18, tyX18, so_le rfl, rfl, in_X18, tyX18_ok, rfl, (by decide +kernel), q1325, q1326, q135⟩
theorem lk_X13_49 : jk_ RX13 (.invokespecial 49) yX18_init (ws_ yX18_init cX18_init 3 (Option.none : Option Jvm.ClassFile.FieldType)) (1, "") 3 := jk_I q1327 q1328 q135 q1329 rfl (by decide +kernel) (so_le rfl)
theorem lk_X18_1 : jk_ RX18 (.invokespecial 1) yX4_init (ws_ yX4_init cX4_init 3 (Option.none : Option Jvm.ClassFile.FieldType)) (1, "") 3 := jk_I q1330 q579 q121 q580 rfl (by decide +kernel) (so_le rfl)
theorem nw_X13_50 : jn_ RX13 50 11 2 := ⟨RX19, TX19, tyX19, so_le rfl, rfl, in_X19, tyX19_ok, rfl, (by decide +kernel), q1334, q1335, q136⟩
theorem lk_X13_52 : jk_ RX13 (.invokespecial 52) yX19_init (ws_ yX19_init cX19_init 3 (Option.none : Option Jvm.ClassFile.FieldType)) (1, "") 3 := jk_I q1336 q1337 q136 q1338 rfl (by decide +kernel) (so_le rfl)
theorem lk_X19_1 : jk_ RX19 (.invokespecial 1) yX4_init (ws_ yX4_init cX4_init 3 (Option.none : Option Jvm.ClassFile.FieldType)) (1, "") 3 := jk_I q1339 q579 q121 q580 rfl (by decide +kernel) (so_le rfl)
theorem nw_X13_33 : jn_ RX13 33 12 2 := ⟨RX20, TX20, tyX20, so_le rfl, rfl, in_X20, tyX20_ok, rfl, (by decide +kernel), q1343, q1344, q137⟩
theorem lk_X13_35 : jk_ RX13 (.invokespecial 35) yX20_init (ws_ yX20_init cX20_init 3 (Option.none : Option Jvm.ClassFile.FieldType)) (1, "") 3 := jk_I q1345 q1346 q137 q1347 rfl (by decide +kernel) (so_le rfl)
theorem lk_X20_1 : jk_ RX20 (.invokespecial 1) yX4_init (ws_ yX4_init cX4_init 3 (Option.none : Option Jvm.ClassFile.FieldType)) (1, "") 3 := jk_I q1348 q579 q121 q580 rfl (by decide +kernel) (so_le rfl)
theorem nw_X13_38 : jn_ RX13 38 20 2 := ⟨RX5, TX5, tyX5, so_le rfl, rfl, in_X5, tyX5_ok, rfl, (by decide +kernel), q1352, q561, q122⟩
theorem lk_X13_40 : jk_ RX13 (.invokespecial 40) yX5_init (ws_ yX5_init cX5_init 3 (Option.none : Option Jvm.ClassFile.FieldType)) (1, "") 3 := jk_I q1353 q576 q122 q577 rfl (by decide +kernel) (so_le rfl)
theorem lk_X0_18_0 : ∀ k ∈ [0], jk_ RX0 (.invokevirtual 18) yX1_work (wsW_ yX1_work cX1_work 5 (Option.some Jvm.ClassFile.FieldType.int) [(28, 45, 179, 165), (52, 172, 179, 165), (28, 45, 193, 0), (52, 172, 193, 0), (179, 186, 193, 0), (193, 195, 193, 0)]) (2, jw_nm k) 2 := by
  intro k hk
  obtain rfl := so_m1 hk
  exact jk_VW q1357 q1358 q1359 q99 q1360 (by decide +kernel) (so_le rfl)
theorem nw_X1_194 : jn_ RX1 194 13 6 := ⟨RX21, TX21, tyX21, so_le rfl, rfl, in_X21, tyX21_ok, rfl, (by decide +kernel), q1361, q1362, q138⟩
theorem lk_X1_196 : jk_ RX1 (.invokespecial 196) yX21_init (ws_ yX21_init cX21_init 4 (Option.none : Option Jvm.ClassFile.FieldType)) (1, "") 4 := jk_I q1363 q1364 q138 q1365 rfl (by decide +kernel) (so_le rfl)
theorem lk_X21_3 : jk_ RX21 (.invokespecial 3) yX9_init (ws_ yX9_init cX9_init 3 (Option.none : Option Jvm.ClassFile.FieldType)) (1, "") 3 := jk_I q1366 q890 q126 q891 rfl (by decide +kernel) (so_le rfl)
theorem lk_X1_199_13 : ∀ k ∈ [13], jk_ RX1 (.invokevirtual 199) yX21_reads (ws_ yX21_reads cX21_reads 2 (Option.some (Jvm.ClassFile.FieldType.object "java/util/ArrayList"))) (2, jw_nm k) 1 := by
  intro k hk
  obtain rfl := so_m1 hk
  exact jk_V q1376 q1377 q1378 q138 q1379 (by decide +kernel) (so_le rfl)
theorem nw_X21_15 : jn_ RX21 15 24 3 := ⟨RJ2, TJ2, tyJ2, so_le rfl, rfl, in_J2, tyJ2_ok, rfl, (by decide +kernel), q1380, q164, q103⟩
theorem lk_X21_17 : jk_ RX21 (.invokespecial 17) yJ2_init (ws_ yJ2_init cJ2_init 2 (Option.none : Option Jvm.ClassFile.FieldType)) (1, "") 2 := jk_I q1381 q166 q103 q167 rfl (by decide +kernel) (so_le rfl)
theorem lk_X21_20_13 : ∀ k ∈ [13], jk_ RX21 (.invokevirtual 20) yX9_sign (ws_ yX9_sign cX9_sign 1 (Option.some Jvm.ClassFile.FieldType.int)) (2, jw_nm k) 1 := by
  intro k hk
  obtain rfl := so_m1 hk
  exact jk_U (C := RX21) (owner := "TunedHouses$Reader") q1382 q1383 q1384 q946 q126 q947 rfl (by decide +kernel) (so_le rfl)
theorem lk_X21_31_13 : ∀ k ∈ [13], jk_ RX21 (.invokevirtual 31) yX21_step (ws_ yX21_step cX21_step 5 (Option.some (Jvm.ClassFile.FieldType.object "TunedHouses$Step"))) (2, jw_nm k) 1 := by
  intro k hk
  obtain rfl := so_m1 hk
  exact jk_V q1385 q1387 qs24 q138 q1388 (by decide +kernel) (so_le rfl)
theorem lk_X21_51_13 : ∀ k ∈ [13], jk_ RX21 (.invokevirtual 51) yX9_word (ws_ yX9_word cX9_word 3 (Option.some (Jvm.ClassFile.FieldType.object "java/lang/String"))) (2, jw_nm k) 1 := by
  intro k hk
  obtain rfl := so_m1 hk
  exact jk_U (C := RX21) (owner := "TunedHouses$Reader") q1389 q1390 q1391 q952 q126 q953 rfl (by decide +kernel) (so_le rfl)
theorem lk_X21_55_26 : ∀ k ∈ [26], jk_ RX21 (.invokevirtual 55) yJ9_hashCode (ws_ yJ9_hashCode cJ9_hashCode 2 (Option.some Jvm.ClassFile.FieldType.int)) (2, jw_nm k) 1 := by
  intro k hk
  obtain rfl := so_m1 hk
  exact jk_V q1392 q984 q985 q110 q986 (by decide +kernel) (so_le rfl)
theorem lk_X21_62_26 : ∀ k ∈ [26], jk_ RX21 (.invokevirtual 62) yJ9_equals (ws_ yJ9_equals cJ9_equals 3 (Option.some Jvm.ClassFile.FieldType.boolean)) (2, jw_nm k) 2 := by
  intro k hk
  obtain rfl := so_m1 hk
  exact jk_V q1394 q1046 q1047 q110 q1048 (by decide +kernel) (so_le rfl)
theorem lk_X21_80_13 : ∀ k ∈ [13], jk_ RX21 (.invokevirtual 80) yX21_again (ws_ yX21_again cX21_again 2 (Option.some (Jvm.ClassFile.FieldType.object "TunedHouses$Step"))) (2, jw_nm k) 1 := by
  intro k hk
  obtain rfl := so_m1 hk
  exact jk_V q1461 q1463 qs27 q138 q1464 (by decide +kernel) (so_le rfl)
theorem lk_X21_111_13 : ∀ k ∈ [13], jk_ RX21 (.invokevirtual 111) yX9_opens (ws_ yX9_opens cX9_opens 2 (Option.none : Option Jvm.ClassFile.FieldType)) (2, jw_nm k) 2 := by
  intro k hk
  obtain rfl := so_m1 hk
  exact jk_U (C := RX21) (owner := "TunedHouses$Reader") q1465 q1466 q1467 q1251 q126 q1252 rfl (by decide +kernel) (so_le rfl)
theorem nw_X21_114 : jn_ RX21 114 18 2 := ⟨RX28, TX28, tyX28, so_le rfl, rfl, in_X28, tyX28_ok, rfl, (by decide +kernel), q1468, q1469, q145⟩
theorem lk_X21_47_13 : ∀ k ∈ [13], jk_ RX21 (.invokevirtual 47) yX9_number (ws_ yX9_number cX9_number 5 (Option.some Jvm.ClassFile.FieldType.int)) (2, jw_nm k) 3 := by
  intro k hk
  obtain rfl := so_m1 hk
  exact jk_U (C := RX21) (owner := "TunedHouses$Reader") q1409 q1410 q1411 q1107 q126 q1108 rfl (by decide +kernel) (so_le rfl)
theorem lk_X21_116 : jk_ RX21 (.invokespecial 116) yX28_init (ws_ yX28_init cX28_init 2 (Option.none : Option Jvm.ClassFile.FieldType)) (1, "") 2 := jk_I q1470 q1471 q145 q1472 rfl (by decide +kernel) (so_le rfl)
theorem lk_X28_3 : jk_ RX28 (.invokespecial 3) yX22_init (ws_ yX22_init cX22_init 1 (Option.none : Option Jvm.ClassFile.FieldType)) (1, "") 1 := jk_IN q1473 q1421 q139 q1422 rfl (by decide +kernel) (so_le rfl)
theorem nw_X28_9 : jn_ RX28 9 24 3 := ⟨RJ2, TJ2, tyJ2, so_le rfl, rfl, in_J2, tyJ2_ok, rfl, (by decide +kernel), q1474, q164, q103⟩
theorem lk_X28_11 : jk_ RX28 (.invokespecial 11) yJ2_init (ws_ yJ2_init cJ2_init 2 (Option.none : Option Jvm.ClassFile.FieldType)) (1, "") 2 := jk_I q1475 q166 q103 q167 rfl (by decide +kernel) (so_le rfl)
theorem lk_X21_86_13 : ∀ k ∈ [13], jk_ RX21 (.invokevirtual 86) yX9_need (ws_ yX9_need cX9_need 2 (Option.none : Option Jvm.ClassFile.FieldType)) (2, jw_nm k) 2 := by
  intro k hk
  obtain rfl := so_m1 hk
  exact jk_U (C := RX21) (owner := "TunedHouses$Reader") q1484 q1485 q1486 q1203 q126 q1204 rfl (by decide +kernel) (so_le rfl)
theorem lk_X21_35_24 : ∀ k ∈ [24], jk_ RX21 (.invokevirtual 35) yJ2_add (ws_ yJ2_add cJ2_add 2 (Option.some Jvm.ClassFile.FieldType.boolean)) (2, jw_nm k) 2 := by
  intro k hk
  obtain rfl := so_m1 hk
  exact jk_V q1487 q1138 q1139 q103 q1140 (by decide +kernel) (so_le rfl)
theorem lk_X21_73_26 : ∀ k ∈ [26], jk_ RX21 (.invokevirtual 73) yJ9_length (ws_ yJ9_length cJ9_length 1 (Option.some Jvm.ClassFile.FieldType.int)) (2, jw_nm k) 1 := by
  intro k hk
  obtain rfl := so_m1 hk
  exact jk_V q1399 q332 q333 q110 q334 (by decide +kernel) (so_le rfl)
theorem lk_X21_76_13 : ∀ k ∈ [13], jk_ RX21 (.invokevirtual 76) yX21_act (ws_ yX21_act cX21_act 5 (Option.some (Jvm.ClassFile.FieldType.object "TunedHouses$Step"))) (2, jw_nm k) 2 := by
  intro k hk
  obtain rfl := so_m1 hk
  exact jk_V q1400 q1402 qs25 q138 q1403 (by decide +kernel) (so_le rfl)
theorem lk_X21_89_13 : ∀ k ∈ [13], jk_ RX21 (.invokevirtual 89) yX21_piano (ws_ yX21_piano cX21_piano 1 (Option.some Jvm.ClassFile.FieldType.int)) (2, jw_nm k) 1 := by
  intro k hk
  obtain rfl := so_m1 hk
  exact jk_V q1404 q1406 qs26 q138 q1407 (by decide +kernel) (so_le rfl)
theorem lk_X21_45_24 : ∀ k ∈ [24], jk_ RX21 (.invokevirtual 45) yJ2_size (ws_ yJ2_size cJ2_size 1 (Option.some Jvm.ClassFile.FieldType.int)) (2, jw_nm k) 1 := by
  intro k hk
  obtain rfl := so_m1 hk
  exact jk_V q1408 q780 q781 q103 q782 (by decide +kernel) (so_le rfl)
theorem nw_X21_103 : jn_ RX21 103 16 2 := ⟨RX26, TX26, tyX26, so_le rfl, rfl, in_X26, tyX26_ok, rfl, (by decide +kernel), q1441, q1442, q143⟩
theorem lk_X21_105 : jk_ RX21 (.invokespecial 105) yX26_init (ws_ yX26_init cX26_init 3 (Option.none : Option Jvm.ClassFile.FieldType)) (1, "") 3 := jk_I q1443 q1444 q143 q1445 rfl (by decide +kernel) (so_le rfl)
theorem lk_X26_1 : jk_ RX26 (.invokespecial 1) yX23_init (ws_ yX23_init cX23_init 1 (Option.none : Option Jvm.ClassFile.FieldType)) (1, "") 1 := jk_IN q1446 q1418 q140 q1419 rfl (by decide +kernel) (so_le rfl)
theorem lk_X23_1 : jk_ RX23 (.invokespecial 1) yX22_init (ws_ yX22_init cX22_init 1 (Option.none : Option Jvm.ClassFile.FieldType)) (1, "") 1 := jk_IN q1420 q1421 q139 q1422 rfl (by decide +kernel) (so_le rfl)
theorem nw_X21_100 : jn_ RX21 100 15 1 := ⟨RX25, TX25, tyX25, so_le rfl, rfl, in_X25, tyX25_ok, rfl, (by decide +kernel), q1431, q1432, q142⟩
theorem lk_X21_102 : jk_ RX21 (.invokespecial 102) yX25_init (ws_ yX25_init cX25_init 2 (Option.none : Option Jvm.ClassFile.FieldType)) (1, "") 2 := jk_I q1433 q1434 q142 q1435 rfl (by decide +kernel) (so_le rfl)
theorem lk_X25_1 : jk_ RX25 (.invokespecial 1) yX23_init (ws_ yX23_init cX23_init 1 (Option.none : Option Jvm.ClassFile.FieldType)) (1, "") 1 := jk_IN q1436 q1418 q140 q1419 rfl (by decide +kernel) (so_le rfl)
theorem nw_X21_92 : jn_ RX21 92 14 2 := ⟨RX24, TX24, tyX24, so_le rfl, rfl, in_X24, tyX24_ok, rfl, (by decide +kernel), q1412, q1413, q141⟩
theorem lk_X21_97 : jk_ RX21 (.invokespecial 97) yX24_init (ws_ yX24_init cX24_init 3 (Option.none : Option Jvm.ClassFile.FieldType)) (1, "") 3 := jk_I q1414 q1415 q141 q1416 rfl (by decide +kernel) (so_le rfl)
theorem lk_X24_1 : jk_ RX24 (.invokespecial 1) yX23_init (ws_ yX23_init cX23_init 1 (Option.none : Option Jvm.ClassFile.FieldType)) (1, "") 1 := jk_IN q1417 q1418 q140 q1419 rfl (by decide +kernel) (so_le rfl)
theorem nw_X21_106 : jn_ RX21 106 17 0 := ⟨RX27, jw_T0, fun _ => .int, so_le rfl, rfl, (fun _ h => by cases h), (fun _ h => absurd h (Nat.not_lt_zero _)), rfl, (fun _ h => absurd h (Nat.not_lt_zero _)), q1454, q1455, q144⟩
theorem lk_X21_108 : jk_ RX21 (.invokespecial 108) yX27_init (ws_ yX27_init cX27_init 1 (Option.none : Option Jvm.ClassFile.FieldType)) (1, "") 1 := jk_IN q1456 q1457 q144 q1458 rfl (by decide +kernel) (so_le rfl)
theorem lk_X27_1 : jk_ RX27 (.invokespecial 1) yX23_init (ws_ yX23_init cX23_init 1 (Option.none : Option Jvm.ClassFile.FieldType)) (1, "") 1 := jk_IN q1459 q1418 q140 q1419 rfl (by decide +kernel) (so_le rfl)
theorem lk_X21_82_13 : ∀ k ∈ [13], jk_ RX21 (.invokevirtual 82) yX9_wrong (ws_ yX9_wrong cX9_wrong 1 (Option.some (Jvm.ClassFile.FieldType.object "TunedHouses$Wrong"))) (2, jw_nm k) 1 := by
  intro k hk
  obtain rfl := so_m1 hk
  exact jk_U (C := RX21) (owner := "TunedHouses$Reader") q1488 q1489 q1490 q1061 q126 q1062 rfl (by decide +kernel) (so_le rfl)
theorem lk_X1_202_0 : ∀ k ∈ [0], jk_ RX1 (.invokevirtual 202) yX1_kept (ws_ yX1_kept cX1_kept 4 (Option.none : Option Jvm.ClassFile.FieldType)) (2, jw_nm k) 4 := by
  intro k hk
  obtain rfl := so_m1 hk
  exact jk_V q841 q843 qs9 q99 q844 (by decide +kernel) (so_le rfl)
theorem nw_X1_44 : jn_ RX1 44 22 11 := ⟨RX7, TX7, tyX7, so_le rfl, rfl, in_X7, tyX7_ok, rfl, (by decide +kernel), q589, q590, q124⟩
theorem lk_X1_46 : jk_ RX1 (.invokespecial 46) yX7_init (ws_ yX7_init cX7_init 2 (Option.none : Option Jvm.ClassFile.FieldType)) (1, "") 2 := jk_IN q591 q592 q124 q593 rfl (by decide +kernel) (so_le rfl)
theorem lk_X1_235_22 : ∀ k ∈ [22], jk_ RX1 (.invokevirtual 235) yX7_becomes (ws_ yX7_becomes cX7_becomes 2 (Option.some (Jvm.ClassFile.FieldType.object "TunedHouses$Terrace"))) (2, jw_nm k) 2 := by
  intro k hk
  obtain rfl := so_m1 hk
  exact jk_V q746 q747 q748 q124 q749 (by decide +kernel) (so_le rfl)
theorem lk_X1_122_24 : ∀ k ∈ [24], jk_ RX1 (.invokevirtual 122) yJ2_get (ws_ yJ2_get cJ2_get 2 (Option.some (Jvm.ClassFile.FieldType.object "java/lang/Object"))) (2, jw_nm k) 2 := by
  intro k hk
  obtain rfl := so_m1 hk
  exact jk_V q808 q809 q810 q103 q811 (by decide +kernel) (so_le rfl)
theorem lk_J2_118 : jk_ RJ2 (.invokestatic 118) yJ17_checkIndex (ws_ yJ17_checkIndex cJ17_checkIndex 2 (Option.some Jvm.ClassFile.FieldType.int)) (0, "") 2 := jk_S q812 q813 q146 q814 (by decide +kernel) (so_le rfl)
theorem lk_J17_105 : jk_ RJ17 (.invokestatic 105) yJ14_checkIndex (ws_ yJ14_checkIndex cJ14_checkIndex 3 (Option.some Jvm.ClassFile.FieldType.int)) (0, "") 3 := jk_S q815 q816 q116 q817 (by decide +kernel) (so_le rfl)
theorem lk_J2_123_24 : ∀ k ∈ [24], jk_ RJ2 (.invokevirtual 123) yJ2_elementData (ws_ yJ2_elementData cJ2_elementData 2 (Option.some (Jvm.ClassFile.FieldType.object "java/lang/Object"))) (2, jw_nm k) 2 := by
  intro k hk
  obtain rfl := so_m1 hk
  exact jk_V q818 q819 q820 q103 q821 (by decide +kernel) (so_le rfl)
theorem lk_X0_21_0 : ∀ k ∈ [0], jk_ RX0 (.invokevirtual 21) yX1_book (wsW_ yX1_book cX1_book 5 (Option.some Jvm.ClassFile.FieldType.int) [(27, 73, 80, 165), (27, 73, 94, 0), (80, 87, 94, 0), (94, 96, 94, 0)]) (2, jw_nm k) 2 := by
  intro k hk
  obtain rfl := so_m1 hk
  exact jk_VW q1633 q1634 q1635 q99 q1636 (by decide +kernel) (so_le rfl)
theorem nw_X1_220 : jn_ RX1 220 19 7 := ⟨RX29, TX29, tyX29, so_le rfl, rfl, in_X29, tyX29_ok, rfl, (by decide +kernel), q1637, q1638, q147⟩
theorem lk_X1_222 : jk_ RX1 (.invokespecial 222) yX29_init (ws_ yX29_init cX29_init 3 (Option.none : Option Jvm.ClassFile.FieldType)) (1, "") 3 := jk_I q1639 q1640 q147 q1641 rfl (by decide +kernel) (so_le rfl)
theorem lk_X29_3 : jk_ RX29 (.invokespecial 3) yX9_init (ws_ yX9_init cX9_init 3 (Option.none : Option Jvm.ClassFile.FieldType)) (1, "") 3 := jk_I q1642 q890 q126 q891 rfl (by decide +kernel) (so_le rfl)
theorem lk_X1_223_19 : ∀ k ∈ [19], jk_ RX1 (.invokevirtual 223) yX29_reads (ws_ yX29_reads cX29_reads 2 (Option.some (Jvm.ClassFile.FieldType.array Jvm.ClassFile.FieldType.int))) (2, jw_nm k) 1 := by
  intro k hk
  obtain rfl := so_m1 hk
  exact jk_V q1656 q1657 q1658 q147 q1659 (by decide +kernel) (so_le rfl)
theorem lk_X29_15_19 : ∀ k ∈ [19], jk_ RX29 (.invokevirtual 15) yX9_sign (ws_ yX9_sign cX9_sign 1 (Option.some Jvm.ClassFile.FieldType.int)) (2, jw_nm k) 1 := by
  intro k hk
  obtain rfl := so_m1 hk
  exact jk_U (C := RX29) (owner := "TunedHouses$Reader") q1660 q1661 q1662 q946 q126 q947 rfl (by decide +kernel) (so_le rfl)
theorem lk_X29_26_19 : ∀ k ∈ [19], jk_ RX29 (.invokevirtual 26) yX9_number (ws_ yX9_number cX9_number 5 (Option.some Jvm.ClassFile.FieldType.int)) (2, jw_nm k) 3 := by
  intro k hk
  obtain rfl := so_m1 hk
  exact jk_U (C := RX29) (owner := "TunedHouses$Reader") q1663 q1664 q1665 q1107 q126 q1108 rfl (by decide +kernel) (so_le rfl)
theorem nw_X29_30 : jn_ RX29 30 3 8 := ⟨RX11, TX11, tyX11, so_le rfl, rfl, in_X11, tyX11_ok, rfl, (by decide +kernel), q1666, q1064, q128⟩
theorem lk_X29_35 : jk_ RX29 (.invokespecial 35) yX11_init (ws_ yX11_init cX11_init 3 (Option.none : Option Jvm.ClassFile.FieldType)) (1, "") 3 := jk_I q1667 q1073 q128 q1074 rfl (by decide +kernel) (so_le rfl)
theorem lk_X29_41_19 : ∀ k ∈ [19], jk_ RX29 (.invokevirtual 41) yX9_need (ws_ yX9_need cX9_need 2 (Option.none : Option Jvm.ClassFile.FieldType)) (2, jw_nm k) 2 := by
  intro k hk
  obtain rfl := so_m1 hk
  exact jk_U (C := RX29) (owner := "TunedHouses$Reader") q1668 q1669 q1670 q1203 q126 q1204 rfl (by decide +kernel) (so_le rfl)
theorem lk_X0_24_0 : ∀ k ∈ [0], jk_ RX0 (.invokevirtual 24) yX1_told (ws_ yX1_told cX1_told 2 (Option.some Jvm.ClassFile.FieldType.int)) (2, jw_nm k) 2 := by
  intro k hk
  obtain rfl := so_m1 hk
  exact jk_V q1674 q1675 q1676 q99 q1677 (by decide +kernel) (so_le rfl)
theorem lk_X1_246 : jk_ RX1 (.invokestatic 246) yX1_isIn (ws_ yX1_isIn cX1_isIn 3 (Option.some Jvm.ClassFile.FieldType.boolean)) (0, "") 3 := jk_S q1678 q1679 q99 q1680 (by decide +kernel) (so_le rfl)
theorem lk_X1_268_0 : ∀ k ∈ [0], jk_ RX1 (.invokevirtual 268) yX1_fighting (ws_ yX1_fighting cX1_fighting 3 (Option.some Jvm.ClassFile.FieldType.int)) (2, jw_nm k) 1 := by
  intro k hk
  obtain rfl := so_m1 hk
  exact jk_V q1686 q1688 qs30 q99 q1689 (by decide +kernel) (so_le rfl)
theorem lk_X1_242_22 : ∀ k ∈ [22], jk_ RX1 (.invokevirtual 242) yX7_fights (ws_ yX7_fights cX7_fights 2 (Option.some Jvm.ClassFile.FieldType.int)) (2, jw_nm k) 2 := by
  intro k hk
  obtain rfl := so_m1 hk
  exact jk_V q1690 q1602 q1603 q124 q1604 (by decide +kernel) (so_le rfl)
theorem lk_X7_97_22 : ∀ k ∈ [22], jk_ RX7 (.invokevirtual 97) yX7_fightsAt (ws_ yX7_fightsAt cX7_fightsAt 5 (Option.some Jvm.ClassFile.FieldType.int)) (2, jw_nm k) 3 := by
  intro k hk
  obtain rfl := so_m1 hk
  exact jk_V q1605 q1606 q1607 q124 q1608 (by decide +kernel) (so_le rfl)
theorem lk_X7_84_22 : ∀ k ∈ [22], jk_ RX7 (.invokevirtual 84) yX7_next (ws_ yX7_next cX7_next 4 (Option.some Jvm.ClassFile.FieldType.int)) (2, jw_nm k) 2 := by
  intro k hk
  obtain rfl := so_m1 hk
  exact jk_V q1544 q1545 q1546 q124 q1547 (by decide +kernel) (so_le rfl)
theorem lk_X7_58_0 : ∀ k ∈ [0], jk_ RX7 (.invokevirtual 58) yX1_pianos (ws_ yX1_pianos cX1_pianos 1 (Option.some Jvm.ClassFile.FieldType.int)) (2, jw_nm k) 1 := by
  intro k hk
  obtain rfl := so_m1 hk
  exact jk_VN (C := RX1) q775 q777 qs3 q99 q778 (by decide +kernel) (so_le rfl)
theorem lk_X7_65 : jk_ RX7 (.invokestatic 65) yX1_has (ws_ yX1_has cX1_has 2 (Option.some Jvm.ClassFile.FieldType.boolean)) (0, "") 2 := jk_SN q1548 q802 q99 q803 (by decide +kernel) (so_le rfl)
theorem lk_X7_73_0 : ∀ k ∈ [0], jk_ RX7 (.invokevirtual 73) yX1_pianoOf (ws_ yX1_pianoOf cX1_pianoOf 2 (Option.some (Jvm.ClassFile.FieldType.object "TunedHouses$Piano"))) (2, jw_nm k) 2 := by
  intro k hk
  obtain rfl := so_m1 hk
  exact jk_VN (C := RX1) q1543 q806 qs7 q99 q807 (by decide +kernel) (so_le rfl)
theorem lk_X1_265_22 : ∀ k ∈ [22], jk_ RX1 (.invokevirtual 265) yX7_thoseThatAre (ws_ yX7_thoseThatAre cX7_thoseThatAre 4 (Option.some Jvm.ClassFile.FieldType.int)) (2, jw_nm k) 2 := by
  intro k hk
  obtain rfl := so_m1 hk
  exact jk_V q1685 q760 q761 q124 q762 (by decide +kernel) (so_le rfl)
theorem lk_X7_111_22 : ∀ k ∈ [22], jk_ RX7 (.invokevirtual 111) yX7_is (ws_ yX7_is cX7_is 4 (Option.some Jvm.ClassFile.FieldType.int)) (2, jw_nm k) 2 := by
  intro k hk
  obtain rfl := so_m1 hk
  exact jk_V q763 q764 q765 q124 q766 (by decide +kernel) (so_le rfl)
theorem lk_X1_259_0 : ∀ k ∈ [0], jk_ RX1 (.invokevirtual 259) yX1_standing (ws_ yX1_standing cX1_standing 3 (Option.some Jvm.ClassFile.FieldType.int)) (2, jw_nm k) 1 := by
  intro k hk
  obtain rfl := so_m1 hk
  exact jk_V q1681 q1683 qs29 q99 q1684 (by decide +kernel) (so_le rfl)
theorem lk_X1_271_22 : ∀ k ∈ [22], jk_ RX1 (.invokevirtual 271) yX7_all (ws_ yX7_all cX7_all 3 (Option.some Jvm.ClassFile.FieldType.int)) (2, jw_nm k) 1 := by
  intro k hk
  obtain rfl := so_m1 hk
  exact jk_V q1691 q1692 q1693 q124 q1694 (by decide +kernel) (so_le rfl)
theorem lk_X0_27_0 : ∀ k ∈ [0], jk_ RX0 (.invokevirtual 27) yX1_house (ws_ yX1_house cX1_house 5 (Option.some Jvm.ClassFile.FieldType.int)) (2, jw_nm k) 3 := by
  intro k hk
  obtain rfl := so_m1 hk
  exact jk_V q1699 q1700 q1701 q99 q1702 (by decide +kernel) (so_le rfl)
theorem lk_X1_274_0 : ∀ k ∈ [0], jk_ RX1 (.invokevirtual 274) yX1_needHouse (ws_ yX1_needHouse cX1_needHouse 2 (Option.none : Option Jvm.ClassFile.FieldType)) (2, jw_nm k) 2 := by
  intro k hk
  obtain rfl := so_m1 hk
  exact jk_V q1703 q1705 qs31 q99 q1706 (by decide +kernel) (so_le rfl)
theorem lk_X1_152_0 : ∀ k ∈ [0], jk_ RX1 (.invokevirtual 152) yX1_needThere (ws_ yX1_needThere cX1_needThere 3 (Option.none : Option Jvm.ClassFile.FieldType)) (2, jw_nm k) 3 := by
  intro k hk
  obtain rfl := so_m1 hk
  exact jk_V q1707 q1709 qs32 q99 q1710 (by decide +kernel) (so_le rfl)
theorem lk_X1_280_22 : ∀ k ∈ [22], jk_ RX1 (.invokevirtual 280) yX7_in (ws_ yX7_in cX7_in 3 (Option.some Jvm.ClassFile.FieldType.int)) (2, jw_nm k) 2 := by
  intro k hk
  obtain rfl := so_m1 hk
  exact jk_V q771 q772 q773 q124 q774 (by decide +kernel) (so_le rfl)
theorem lk_X1_277_22 : ∀ k ∈ [22], jk_ RX1 (.invokevirtual 277) yX7_is (ws_ yX7_is cX7_is 4 (Option.some Jvm.ClassFile.FieldType.int)) (2, jw_nm k) 2 := by
  intro k hk
  obtain rfl := so_m1 hk
  exact jk_V q1726 q764 q765 q124 q766 (by decide +kernel) (so_le rfl)
theorem lk_X0_33_0 : ∀ k ∈ [0], jk_ RX0 (.invokevirtual 33) yX1_there (ws_ yX1_there cX1_there 3 (Option.some Jvm.ClassFile.FieldType.int)) (2, jw_nm k) 3 := by
  intro k hk
  obtain rfl := so_m1 hk
  exact jk_V q1730 q1731 q1732 q99 q1733 (by decide +kernel) (so_le rfl)
theorem lk_X1_292 : jk_ RX1 (.invokestatic 292) yX1_isThing (ws_ yX1_isThing cX1_isThing 1 (Option.some Jvm.ClassFile.FieldType.boolean)) (0, "") 1 := jk_S q1734 q1735 q99 q1736 (by decide +kernel) (so_le rfl)
theorem lk_X0_36_0 : ∀ k ∈ [0], jk_ RX0 (.invokevirtual 36) yX1_wall (ws_ yX1_wall cX1_wall 3 (Option.some Jvm.ClassFile.FieldType.int)) (2, jw_nm k) 3 := by
  intro k hk
  obtain rfl := so_m1 hk
  exact jk_V q1740 q1741 q1742 q99 q1743 (by decide +kernel) (so_le rfl)
theorem lk_X1_296 : jk_ RX1 (.invokestatic 296) yX1_isPart (ws_ yX1_isPart cX1_isPart 1 (Option.some Jvm.ClassFile.FieldType.boolean)) (0, "") 1 := jk_S q853 q854 q99 q855 (by decide +kernel) (so_le rfl)
theorem lk_X0_39_0 : ∀ k ∈ [0], jk_ RX0 (.invokevirtual 39) yX1_piano (ws_ yX1_piano cX1_piano 3 (Option.some Jvm.ClassFile.FieldType.int)) (2, jw_nm k) 3 := by
  intro k hk
  obtain rfl := so_m1 hk
  exact jk_V q1747 q1748 q1749 q99 q1750 (by decide +kernel) (so_le rfl)
theorem lk_X1_305_0 : ∀ k ∈ [0], jk_ RX1 (.invokevirtual 305) yX1_needPiano (ws_ yX1_needPiano cX1_needPiano 2 (Option.none : Option Jvm.ClassFile.FieldType)) (2, jw_nm k) 2 := by
  intro k hk
  obtain rfl := so_m1 hk
  exact jk_V q1751 q1753 qs33 q99 q1754 (by decide +kernel) (so_le rfl)
theorem lk_X1_326_22 : ∀ k ∈ [22], jk_ RX1 (.invokevirtual 326) yX7_brings (ws_ yX7_brings cX7_brings 5 (Option.some Jvm.ClassFile.FieldType.int)) (2, jw_nm k) 2 := by
  intro k hk
  obtain rfl := so_m1 hk
  exact jk_V q1756 q1532 q1533 q124 q1534 (by decide +kernel) (so_le rfl)
theorem lk_X7_100_22 : ∀ k ∈ [22], jk_ RX7 (.invokevirtual 100) yX7_force (ws_ yX7_force cX7_force 2 (Option.some Jvm.ClassFile.FieldType.int)) (2, jw_nm k) 2 := by
  intro k hk
  obtain rfl := so_m1 hk
  exact jk_V q1535 q1536 q1537 q124 q1538 (by decide +kernel) (so_le rfl)
theorem lk_X7_69_22 : ∀ k ∈ [22], jk_ RX7 (.invokevirtual 69) yX7_forceWith (ws_ yX7_forceWith cX7_forceWith 5 (Option.some Jvm.ClassFile.FieldType.int)) (2, jw_nm k) 3 := by
  intro k hk
  obtain rfl := so_m1 hk
  exact jk_V q1539 q1540 q1541 q124 q1542 (by decide +kernel) (so_le rfl)
theorem lk_X7_88 : jk_ RX7 (.invokestatic 88) yJ16_bitCount (ws_ yJ16_bitCount cJ16_bitCount 1 (Option.some Jvm.ClassFile.FieldType.int)) (0, "") 1 := jk_S q1549 q828 q119 q829 (by decide +kernel) (so_le rfl)
theorem lk_X7_93_0 : ∀ k ∈ [0], jk_ RX7 (.invokevirtual 93) yX1_forceBy (ws_ yX1_forceBy cX1_forceBy 9 (Option.some Jvm.ClassFile.FieldType.int)) (2, jw_nm k) 9 := by
  intro k hk
  obtain rfl := so_m1 hk
  exact jk_VN (C := RX1) q1550 q1552 qs28 q99 q1553 (by decide +kernel) (so_le rfl)
theorem lk_X1_134 : jk_ RX1 (.invokestatic 134) yJ12_min (ws_ yJ12_min cJ12_min 2 (Option.some Jvm.ClassFile.FieldType.int)) (0, "") 2 := jk_S q1599 q295 q113 q296 (by decide +kernel) (so_le rfl)
theorem lk_X1_140 : jk_ RX1 (.invokestatic 140) yJ12_max (ws_ yJ12_max cJ12_max 2 (Option.some Jvm.ClassFile.FieldType.int)) (0, "") 2 := jk_S q1600 q277 q113 q278 (by decide +kernel) (so_le rfl)
theorem lk_X7_103_22 : ∀ k ∈ [22], jk_ RX7 (.invokevirtual 103) yX7_fights (ws_ yX7_fights cX7_fights 2 (Option.some Jvm.ClassFile.FieldType.int)) (2, jw_nm k) 2 := by
  intro k hk
  obtain rfl := so_m1 hk
  exact jk_V q1601 q1602 q1603 q124 q1604 (by decide +kernel) (so_le rfl)
theorem lk_X7_106 : jk_ RX7 (.invokestatic 106) yJ12_max (ws_ yJ12_max cJ12_max 2 (Option.some Jvm.ClassFile.FieldType.int)) (0, "") 2 := jk_S q1609 q277 q113 q278 (by decide +kernel) (so_le rfl)
theorem lk_X1_323_22 : ∀ k ∈ [22], jk_ RX1 (.invokevirtual 323) yX7_force (ws_ yX7_force cX7_force 2 (Option.some Jvm.ClassFile.FieldType.int)) (2, jw_nm k) 2 := by
  intro k hk
  obtain rfl := so_m1 hk
  exact jk_V q1755 q1536 q1537 q124 q1538 (by decide +kernel) (so_le rfl)
theorem lk_X1_308_0 : ∀ k ∈ [0], jk_ RX1 (.invokevirtual 308) yX1_pianoOf (ws_ yX1_pianoOf cX1_pianoOf 2 (Option.some (Jvm.ClassFile.FieldType.object "TunedHouses$Piano"))) (2, jw_nm k) 2 := by
  intro k hk
  obtain rfl := so_m1 hk
  exact jk_V q804 q806 qs7 q99 q807 (by decide +kernel) (so_le rfl)
theorem lk_X0_42_0 : ∀ k ∈ [0], jk_ RX0 (.invokevirtual 42) yX1_would (ws_ yX1_would cX1_would 9 (Option.some Jvm.ClassFile.FieldType.int)) (2, jw_nm k) 9 := by
  intro k hk
  obtain rfl := so_m1 hk
  exact jk_V q1760 q1761 q1762 q99 q1763 (by decide +kernel) (so_le rfl)
theorem lk_X1_329_0 : ∀ k ∈ [0], jk_ RX1 (.invokevirtual 329) yX1_forceBy (ws_ yX1_forceBy cX1_forceBy 9 (Option.some Jvm.ClassFile.FieldType.int)) (2, jw_nm k) 9 := by
  intro k hk
  obtain rfl := so_m1 hk
  exact jk_V q1764 q1552 qs28 q99 q1553 (by decide +kernel) (so_le rfl)
theorem lk_X0_46_0 : ∀ k ∈ [0], jk_ RX0 (.invokevirtual 46) yX1_ahead (ws_ yX1_ahead cX1_ahead 6 (Option.some Jvm.ClassFile.FieldType.int)) (2, jw_nm k) 4 := by
  intro k hk
  obtain rfl := so_m1 hk
  exact jk_V q1768 q1769 q1770 q99 q1771 (by decide +kernel) (so_le rfl)
theorem lk_X1_333_22 : ∀ k ∈ [22], jk_ RX1 (.invokevirtual 333) yX7_passes (ws_ yX7_passes cX7_passes 3 (Option.none : Option Jvm.ClassFile.FieldType)) (2, jw_nm k) 1 := by
  intro k hk
  obtain rfl := so_m1 hk
  exact jk_V q1772 q1528 q1529 q124 q1530 (by decide +kernel) (so_le rfl)
theorem lk_X7_124_22 : ∀ k ∈ [22], jk_ RX7 (.invokevirtual 124) yX7_brings (ws_ yX7_brings cX7_brings 5 (Option.some Jvm.ClassFile.FieldType.int)) (2, jw_nm k) 2 := by
  intro k hk
  obtain rfl := so_m1 hk
  exact jk_V q1531 q1532 q1533 q124 q1534 (by decide +kernel) (so_le rfl)
theorem lk_X7_127 : jk_ RX7 (.invokestatic 127) yJ12_min (ws_ yJ12_min cJ12_min 2 (Option.some Jvm.ClassFile.FieldType.int)) (0, "") 2 := jk_S q1610 q295 q113 q296 (by decide +kernel) (so_le rfl)
theorem lk_X0_50_0 : ∀ k ∈ [0], jk_ RX0 (.invokevirtual 50) yX1_when (ws_ yX1_when cX1_when 5 (Option.some Jvm.ClassFile.FieldType.int)) (2, jw_nm k) 3 := by
  intro k hk
  obtain rfl := so_m1 hk
  exact jk_V q1776 q1777 q1778 q99 q1779 (by decide +kernel) (so_le rfl)
theorem lk_X0_53_0 : ∀ k ∈ [0], jk_ RX0 (.invokevirtual 53) yX1_muffle (ws_ yX1_muffle cX1_muffle 3 (Option.some Jvm.ClassFile.FieldType.int)) (2, jw_nm k) 2 := by
  intro k hk
  obtain rfl := so_m1 hk
  exact jk_V q1783 q1784 q1785 q99 q1786 (by decide +kernel) (so_le rfl)
theorem lk_X1_336_22 : ∀ k ∈ [22], jk_ RX1 (.invokevirtual 336) yX7_forceWith (ws_ yX7_forceWith cX7_forceWith 5 (Option.some Jvm.ClassFile.FieldType.int)) (2, jw_nm k) 3 := by
  intro k hk
  obtain rfl := so_m1 hk
  exact jk_V q1787 q1540 q1541 q124 q1542 (by decide +kernel) (so_le rfl)
theorem lk_X0_56_0 : ∀ k ∈ [0], jk_ RX0 (.invokevirtual 56) yX1_placed (ws_ yX1_placed cX1_placed 2 (Option.some Jvm.ClassFile.FieldType.int)) (2, jw_nm k) 2 := by
  intro k hk
  obtain rfl := so_m1 hk
  exact jk_V q1791 q1792 q1793 q99 q1794 (by decide +kernel) (so_le rfl)
theorem lk_X1_361_0 : ∀ k ∈ [0], jk_ RX1 (.invokevirtual 361) yX1_findPlaces (ws_ yX1_findPlaces cX1_findPlaces 2 (Option.none : Option Jvm.ClassFile.FieldType)) (2, jw_nm k) 1 := by
  intro k hk
  obtain rfl := so_m1 hk
  exact jk_V q787 q789 qs4 q99 q790 (by decide +kernel) (so_le rfl)
theorem lk_X1_358_0 : ∀ k ∈ [0], jk_ RX1 (.invokevirtual 358) yX1_placesOn (ws_ yX1_placesOn cX1_placesOn 4 (Option.none : Option Jvm.ClassFile.FieldType)) (2, jw_nm k) 3 := by
  intro k hk
  obtain rfl := so_m1 hk
  exact jk_V q791 q793 qs5 q99 q794 (by decide +kernel) (so_le rfl)
theorem lk_X1_355_0 : ∀ k ∈ [0], jk_ RX1 (.invokevirtual 355) yX1_isPeace (ws_ yX1_isPeace cX1_isPeace 4 (Option.some Jvm.ClassFile.FieldType.boolean)) (2, jw_nm k) 3 := by
  intro k hk
  obtain rfl := so_m1 hk
  exact jk_V q797 q799 qs6 q99 q800 (by decide +kernel) (so_le rfl)
theorem lk_X1_349 : jk_ RX1 (.invokestatic 349) yX1_has (ws_ yX1_has cX1_has 2 (Option.some Jvm.ClassFile.FieldType.boolean)) (0, "") 2 := jk_S q801 q802 q99 q803 (by decide +kernel) (so_le rfl)
theorem lk_X0_59_0 : ∀ k ∈ [0], jk_ RX0 (.invokevirtual 59) yX1_from (ws_ yX1_from cX1_from 6 (Option.some Jvm.ClassFile.FieldType.int)) (2, jw_nm k) 3 := by
  intro k hk
  obtain rfl := so_m1 hk
  exact jk_V q1798 q1799 q1800 q99 q1801 (by decide +kernel) (so_le rfl)
theorem lk_X1_364_0 : ∀ k ∈ [0], jk_ RX1 (.invokevirtual 364) yX1_layFrom (ws_ yX1_layFrom cX1_layFrom 5 (Option.none : Option Jvm.ClassFile.FieldType)) (2, jw_nm k) 2 := by
  intro k hk
  obtain rfl := so_m1 hk
  exact jk_V q1802 q1804 qs34 q99 q1805 (by decide +kernel) (so_le rfl)
theorem lk_X1_367_0 : ∀ k ∈ [0], jk_ RX1 (.invokevirtual 367) yX1_isFit (ws_ yX1_isFit cX1_isFit 3 (Option.some Jvm.ClassFile.FieldType.boolean)) (2, jw_nm k) 2 := by
  intro k hk
  obtain rfl := so_m1 hk
  exact jk_V q1806 q1808 qs35 q99 q1809 (by decide +kernel) (so_le rfl)
theorem lk_X0_62_0 : ∀ k ∈ [0], jk_ RX0 (.invokevirtual 62) yX1_look (ws_ yX1_look cX1_look 7 (Option.some Jvm.ClassFile.FieldType.int)) (2, jw_nm k) 3 := by
  intro k hk
  obtain rfl := so_m1 hk
  exact jk_V q1813 q1814 q1815 q99 q1816 (by decide +kernel) (so_le rfl)
theorem lk_X1_370_0 : ∀ k ∈ [0], jk_ RX1 (.invokevirtual 370) yX1_worstAt (ws_ yX1_worstAt cX1_worstAt 5 (Option.some Jvm.ClassFile.FieldType.int)) (2, jw_nm k) 2 := by
  intro k hk
  obtain rfl := so_m1 hk
  exact jk_V q1817 q1819 qs36 q99 q1820 (by decide +kernel) (so_le rfl)
theorem lk_X0_65_0 : ∀ k ∈ [0], jk_ RX0 (.invokevirtual 65) yX1_way (ws_ yX1_way cX1_way 7 (Option.some Jvm.ClassFile.FieldType.int)) (2, jw_nm k) 3 := by
  intro k hk
  obtain rfl := so_m1 hk
  exact jk_V q1824 q1825 q1826 q99 q1827 (by decide +kernel) (so_le rfl)
theorem lk_X0_68_0 : ∀ k ∈ [0], jk_ RX0 (.invokevirtual 68) yX1_price (ws_ yX1_price cX1_price 14 (Option.some Jvm.ClassFile.FieldType.long)) (2, jw_nm k) 4 := by
  intro k hk
  obtain rfl := so_m1 hk
  exact jk_V q1831 q1832 q1833 q99 q1834 (by decide +kernel) (so_le rfl)
theorem lk_X1_381 : jk_ RX1 (.invokestatic 381) yX1_bestOf (ws_ yX1_bestOf cX1_bestOf 9 (Option.some Jvm.ClassFile.FieldType.long)) (0, "") 2 := jk_S q1835 q1836 q99 q1837 (by decide +kernel) (so_le rfl)
theorem lk_X1_385 : jk_ RX1 (.invokestatic 385) yJ12_max_2 (ws_ yJ12_max_2 cJ12_max_2 4 (Option.some Jvm.ClassFile.FieldType.long)) (0, "") 2 := jk_S q1838 q1839 q113 q1840 (by decide +kernel) (so_le rfl)
theorem lk_X0_72_0 : ∀ k ∈ [0], jk_ RX0 (.invokevirtual 72) yX1_tuner (ws_ yX1_tuner cX1_tuner 8 (Option.some Jvm.ClassFile.FieldType.int)) (2, jw_nm k) 4 := by
  intro k hk
  obtain rfl := so_m1 hk
  exact jk_V q1844 q1845 q1846 q99 q1847 (by decide +kernel) (so_le rfl)
theorem lk_X1_388 : jk_ RX1 (.invokestatic 388) yX1_heHas (ws_ yX1_heHas cX1_heHas 3 (Option.some Jvm.ClassFile.FieldType.int)) (0, "") 3 := jk_S q1848 q1849 q99 q1850 (by decide +kernel) (so_le rfl)
theorem lk_X1_392 : jk_ RX1 (.invokestatic 392) yX1_itHas (ws_ yX1_itHas cX1_itHas 4 (Option.some Jvm.ClassFile.FieldType.int)) (0, "") 4 := jk_S q1851 q1852 q99 q1853 (by decide +kernel) (so_le rfl)
theorem lk_X0_75_0 : ∀ k ∈ [0], jk_ RX0 (.invokevirtual 75) yX1_share (ws_ yX1_share cX1_share 5 (Option.some Jvm.ClassFile.FieldType.int)) (2, jw_nm k) 4 := by
  intro k hk
  obtain rfl := so_m1 hk
  exact jk_V q1857 q1858 q1859 q99 q1860 (by decide +kernel) (so_le rfl)
theorem lk_X1_396_0 : ∀ k ∈ [0], jk_ RX1 (.invokevirtual 396) yX1_given (ws_ yX1_given cX1_given 5 (Option.some Jvm.ClassFile.FieldType.int)) (2, jw_nm k) 3 := by
  intro k hk
  obtain rfl := so_m1 hk
  exact jk_V q1861 q1863 qs37 q99 q1864 (by decide +kernel) (so_le rfl)
theorem lk_X0_78_0 : ∀ k ∈ [0], jk_ RX0 (.invokevirtual 78) yX1_those (ws_ yX1_those cX1_those 4 (Option.some Jvm.ClassFile.FieldType.int)) (2, jw_nm k) 2 := by
  intro k hk
  obtain rfl := so_m1 hk
  exact jk_V q1868 q1869 q1870 q99 q1871 (by decide +kernel) (so_le rfl)
theorem lk_X0_81_0 : ∀ k ∈ [0], jk_ RX0 (.invokevirtual 81) yX1_loudest (ws_ yX1_loudest cX1_loudest 4 (Option.some Jvm.ClassFile.FieldType.int)) (2, jw_nm k) 2 := by
  intro k hk
  obtain rfl := so_m1 hk
  exact jk_V q1875 q1876 q1877 q99 q1878 (by decide +kernel) (so_le rfl)
theorem lk_X0_84_0 : ∀ k ∈ [0], jk_ RX0 (.invokevirtual 84) yX1_quiet (ws_ yX1_quiet cX1_quiet 4 (Option.some Jvm.ClassFile.FieldType.int)) (2, jw_nm k) 2 := by
  intro k hk
  obtain rfl := so_m1 hk
  exact jk_V q1882 q1883 q1884 q99 q1885 (by decide +kernel) (so_le rfl)
theorem lk_X1_339_22 : ∀ k ∈ [22], jk_ RX1 (.invokevirtual 339) yX7_fightsAt (ws_ yX7_fightsAt cX7_fightsAt 5 (Option.some Jvm.ClassFile.FieldType.int)) (2, jw_nm k) 3 := by
  intro k hk
  obtain rfl := so_m1 hk
  exact jk_V q1886 q1606 q1607 q124 q1608 (by decide +kernel) (so_le rfl)
theorem lk_X0_87_0 : ∀ k ∈ [0], jk_ RX0 (.invokevirtual 87) yX1_oldest (ws_ yX1_oldest cX1_oldest 4 (Option.some Jvm.ClassFile.FieldType.int)) (2, jw_nm k) 2 := by
  intro k hk
  obtain rfl := so_m1 hk
  exact jk_V q1890 q1891 q1892 q99 q1893 (by decide +kernel) (so_le rfl)
theorem lk_X0_90_0 : ∀ k ∈ [0], jk_ RX0 (.invokevirtual 90) yX1_margin (ws_ yX1_margin cX1_margin 5 (Option.some Jvm.ClassFile.FieldType.int)) (2, jw_nm k) 2 := by
  intro k hk
  obtain rfl := so_m1 hk
  exact jk_V q1897 q1898 q1899 q99 q1900 (by decide +kernel) (so_le rfl)
theorem lk_X0_93_0 : ∀ k ∈ [0], jk_ RX0 (.invokevirtual 93) yX1_tunes (ws_ yX1_tunes cX1_tunes 4 (Option.some Jvm.ClassFile.FieldType.int)) (2, jw_nm k) 3 := by
  intro k hk
  obtain rfl := so_m1 hk
  exact jk_V q1904 q1905 q1906 q99 q1907 (by decide +kernel) (so_le rfl)
theorem lk_X1_345_22 : ∀ k ∈ [22], jk_ RX1 (.invokevirtual 345) yX7_puts (ws_ yX7_puts cX7_puts 3 (Option.some Jvm.ClassFile.FieldType.boolean)) (2, jw_nm k) 3 := by
  intro k hk
  obtain rfl := so_m1 hk
  exact jk_V q1908 q1615 q1616 q124 q1617 (by decide +kernel) (so_le rfl)
theorem lk_X7_118_22 : ∀ k ∈ [22], jk_ RX7 (.invokevirtual 118) yX7_in (ws_ yX7_in cX7_in 3 (Option.some Jvm.ClassFile.FieldType.int)) (2, jw_nm k) 2 := by
  intro k hk
  obtain rfl := so_m1 hk
  exact jk_V q1618 q772 q773 q124 q774 (by decide +kernel) (so_le rfl)
theorem lk_X0_96_0 : ∀ k ∈ [0], jk_ RX0 (.invokevirtual 96) yX1_year (ws_ yX1_year cX1_year 6 (Option.some Jvm.ClassFile.FieldType.int)) (2, jw_nm k) 5 := by
  intro k hk
  obtain rfl := so_m1 hk
  exact jk_V q1912 q1913 q1914 q99 q1915 (by decide +kernel) (so_le rfl)
theorem lk_X1_409 : jk_ RX1 (.invokestatic 409) yX1_isYear (ws_ yX1_isYear cX1_isYear 2 (Option.some Jvm.ClassFile.FieldType.boolean)) (0, "") 2 := jk_S q1916 q1917 q99 q1918 (by decide +kernel) (so_le rfl)
theorem lk_X1_412_0 : ∀ k ∈ [0], jk_ RX1 (.invokevirtual 412) yX1_yearBy (ws_ yX1_yearBy cX1_yearBy 7 (Option.some (Jvm.ClassFile.FieldType.object "TunedHouses$Terrace"))) (2, jw_nm k) 4 := by
  intro k hk
  obtain rfl := so_m1 hk
  exact jk_V q1919 q1921 qs38 q99 q1922 (by decide +kernel) (so_le rfl)
theorem lk_X1_406_0 : ∀ k ∈ [0], jk_ RX1 (.invokevirtual 406) yX1_draw (ws_ yX1_draw cX1_draw 2 (Option.some Jvm.ClassFile.FieldType.int)) (2, jw_nm k) 2 := by
  intro k hk
  obtain rfl := so_m1 hk
  exact jk_V q1923 q1925 qs39 q99 q1926 (by decide +kernel) (so_le rfl)
theorem lk_X1_342_22 : ∀ k ∈ [22], jk_ RX1 (.invokevirtual 342) yX7_changed (ws_ yX7_changed cX7_changed 1 (Option.some Jvm.ClassFile.FieldType.int)) (2, jw_nm k) 1 := by
  intro k hk
  obtain rfl := so_m1 hk
  exact jk_V q755 q756 q757 q124 q758 (by decide +kernel) (so_le rfl)
theorem lk_X7_114_22 : ∀ k ∈ [22], jk_ RX7 (.invokevirtual 114) yX7_thoseThatAre (ws_ yX7_thoseThatAre cX7_thoseThatAre 4 (Option.some Jvm.ClassFile.FieldType.int)) (2, jw_nm k) 2 := by
  intro k hk
  obtain rfl := so_m1 hk
  exact jk_V q759 q760 q761 q124 q762 (by decide +kernel) (so_le rfl)
theorem lk_X0_100_0 : ∀ k ∈ [0], jk_ RX0 (.invokevirtual 100) yX1_span (ws_ yX1_span cX1_span 13 (Option.some Jvm.ClassFile.FieldType.int)) (2, jw_nm k) 7 := by
  intro k hk
  obtain rfl := so_m1 hk
  exact jk_V q1931 q1932 q1933 q99 q1934 (by decide +kernel) (so_le rfl)
theorem lk_X1_373 : jk_ RX1 (.invokestatic 373) yJ16_bitCount (ws_ yJ16_bitCount cJ16_bitCount 1 (Option.some Jvm.ClassFile.FieldType.int)) (0, "") 1 := jk_S q827 q828 q119 q829 (by decide +kernel) (so_le rfl)
theorem nw_X1_19 : jn_ RX1 19 1 10 := ⟨RX2, TX2, tyX2, so_le rfl, rfl, in_X2, tyX2_ok, rfl, (by decide +kernel), q157, q158, q100⟩
theorem lk_X1_21 : jk_ RX1 (.invokespecial 21) yX2_init (ws_ yX2_init cX2_init 1 (Option.none : Option Jvm.ClassFile.FieldType)) (1, "") 1 := jk_IN q159 q160 q100 q161 rfl (by decide +kernel) (so_le rfl)
theorem lk_X1_161_0 : ∀ k ∈ [0], jk_ RX1 (.invokevirtual 161) yX1_put (ws_ yX1_put cX1_put 3 (Option.none : Option Jvm.ClassFile.FieldType)) (2, jw_nm k) 2 := by
  intro k hk
  obtain rfl := so_m1 hk
  exact jk_V q734 q736 qs2 q99 q737 (by decide +kernel) (so_le rfl)
theorem lk_X1_378_0 : ∀ k ∈ [0], jk_ RX1 (.invokevirtual 378) yX1_isAlone (ws_ yX1_isAlone cX1_isAlone 3 (Option.some Jvm.ClassFile.FieldType.boolean)) (2, jw_nm k) 2 := by
  intro k hk
  obtain rfl := so_m1 hk
  exact jk_V q833 q835 qs8 q99 q836 (by decide +kernel) (so_le rfl)
theorem lk_X15_7 : jk_ RX15 (.invokestatic 7) yJ12_min (ws_ yJ12_min cJ12_min 2 (Option.some Jvm.ClassFile.FieldType.int)) (0, "") 2 := jk_S q1574 q295 q113 q296 (by decide +kernel) (so_le rfl)
theorem lk_X16_7 : jk_ RX16 (.invokestatic 7) yJ12_max (ws_ yJ12_max cJ12_max 2 (Option.some Jvm.ClassFile.FieldType.int)) (0, "") 2 := jk_S q1584 q277 q113 q278 (by decide +kernel) (so_le rfl)
theorem lk_X23_7 : jk_ RX23 (.invokestatic 7) yX22_may (ws_ yX22_may cX22_may 1 (Option.some Jvm.ClassFile.FieldType.boolean)) (0, "") 1 := jk_SI (x := ⟨RX23, "may", "(LTunedHouses$Terrace;)Z"⟩) (owner := "TunedHouses$Step") q1508 q1509 q1500 q139 q1501 rfl (by decide +kernel) (so_le rfl)
theorem lk_X24_16_22 : ∀ k ∈ [22], jk_ RX24 (.invokevirtual 16) yX7_puts (ws_ yX7_puts cX7_puts 3 (Option.some Jvm.ClassFile.FieldType.boolean)) (2, jw_nm k) 3 := by
  intro k hk
  obtain rfl := so_m1 hk
  exact jk_V q1614 q1615 q1616 q124 q1617 (by decide +kernel) (so_le rfl)
theorem lk_X25_13_22 : ∀ k ∈ [22], jk_ RX25 (.invokevirtual 13) yX7_takes (ws_ yX7_takes cX7_takes 2 (Option.some Jvm.ClassFile.FieldType.boolean)) (2, jw_nm k) 2 := by
  intro k hk
  obtain rfl := so_m1 hk
  exact jk_V q1622 q1623 q1624 q124 q1625 (by decide +kernel) (so_le rfl)
theorem lk_X26_16_22 : ∀ k ∈ [22], jk_ RX26 (.invokevirtual 16) yX7_lays (ws_ yX7_lays cX7_lays 3 (Option.some Jvm.ClassFile.FieldType.boolean)) (2, jw_nm k) 3 := by
  intro k hk
  obtain rfl := so_m1 hk
  exact jk_V q1516 q1517 q1518 q124 q1519 (by decide +kernel) (so_le rfl)
theorem lk_X27_7_22 : ∀ k ∈ [22], jk_ RX27 (.invokevirtual 7) yX7_day (ws_ yX7_day cX7_day 1 (Option.some Jvm.ClassFile.FieldType.boolean)) (2, jw_nm k) 1 := by
  intro k hk
  obtain rfl := so_m1 hk
  exact jk_V q1523 q1524 q1525 q124 q1526 (by decide +kernel) (so_le rfl)
theorem lk_X7_121_22 : ∀ k ∈ [22], jk_ RX7 (.invokevirtual 121) yX7_passes (ws_ yX7_passes cX7_passes 3 (Option.none : Option Jvm.ClassFile.FieldType)) (2, jw_nm k) 1 := by
  intro k hk
  obtain rfl := so_m1 hk
  exact jk_V q1527 q1528 q1529 q124 q1530 (by decide +kernel) (so_le rfl)
theorem lk_X28_24 : jk_ RX28 (.invokestatic 24) yX22_may (ws_ yX22_may cX22_may 1 (Option.some Jvm.ClassFile.FieldType.boolean)) (0, "") 1 := jk_SI (x := ⟨RX28, "may", "(LTunedHouses$Terrace;)Z"⟩) (owner := "TunedHouses$Step") q1498 q1499 q1500 q139 q1501 rfl (by decide +kernel) (so_le rfl)
theorem lk_X28_32_24 : ∀ k ∈ [24], jk_ RX28 (.invokevirtual 32) yJ2_size (ws_ yJ2_size cJ2_size 1 (Option.some Jvm.ClassFile.FieldType.int)) (2, jw_nm k) 1 := by
  intro k hk
  obtain rfl := so_m1 hk
  exact jk_V q1502 q780 q781 q103 q782 (by decide +kernel) (so_le rfl)
theorem lk_X28_36_24 : ∀ k ∈ [24], jk_ RX28 (.invokevirtual 36) yJ2_get (ws_ yJ2_get cJ2_get 2 (Option.some (Jvm.ClassFile.FieldType.object "java/lang/Object"))) (2, jw_nm k) 2 := by
  intro k hk
  obtain rfl := so_m1 hk
  exact jk_V q1503 q809 q810 q103 q811 (by decide +kernel) (so_le rfl)
theorem lk_X8_100_23 : ∀ k ∈ [23], jk_ RX8 (.invokevirtual 100) yX8_tellsNothing (ws_ yX8_tellsNothing cX8_tellsNothing 2 (Option.none : Option Jvm.ClassFile.FieldType)) (2, jw_nm k) 1 := by
  intro k hk
  obtain rfl := so_m1 hk
  exact jk_V q1943 q1945 qs40 q125 q1946 (by decide +kernel) (so_le rfl)
theorem lk_X8_103_23 : ∀ k ∈ [23], jk_ RX8 (.invokevirtual 103) yX8_beginsAnew (ws_ yX8_beginsAnew cX8_beginsAnew 2 (Option.none : Option Jvm.ClassFile.FieldType)) (2, jw_nm k) 1 := by
  intro k hk
  obtain rfl := so_m1 hk
  exact jk_V q1947 q1949 qs41 q125 q1950 (by decide +kernel) (so_le rfl)
theorem lk_X8_202 : jk_ RX8 (.invokestatic 202) yX8_lays (ws_ yX8_lays cX8_lays 5 (Option.none : Option Jvm.ClassFile.FieldType)) (0, "") 3 := jk_S q1951 q1952 q125 q1953 (by decide +kernel) (so_le rfl)
theorem lk_X8_140 : jk_ RX8 (.invokestatic 140) yX8_in (ws_ yX8_in cX8_in 3 (Option.some Jvm.ClassFile.FieldType.boolean)) (0, "") 3 := jk_S q2117 q2118 q125 q2119 (by decide +kernel) (so_le rfl)
theorem lk_X8_189_23 : ∀ k ∈ [23], jk_ RX8 (.invokevirtual 189) yX8_bad (ws_ yX8_bad cX8_bad 4 (Option.some Jvm.ClassFile.FieldType.boolean)) (2, jw_nm k) 4 := by
  intro k hk
  obtain rfl := so_m1 hk
  exact jk_V q2120 q2122 qs42 q125 q2123 (by decide +kernel) (so_le rfl)
theorem lk_X8_193_23 : ∀ k ∈ [23], jk_ RX8 (.invokevirtual 193) yX8_starts (ws_ yX8_starts cX8_starts 2 (Option.none : Option Jvm.ClassFile.FieldType)) (2, jw_nm k) 2 := by
  intro k hk
  obtain rfl := so_m1 hk
  exact jk_V q2124 q2126 qs43 q125 q2127 (by decide +kernel) (so_le rfl)
theorem lk_X8_128_23 : ∀ k ∈ [23], jk_ RX8 (.invokevirtual 128) yX8_blanks (ws_ yX8_blanks cX8_blanks 1 (Option.none : Option Jvm.ClassFile.FieldType)) (2, jw_nm k) 1 := by
  intro k hk
  obtain rfl := so_m1 hk
  exact jk_V q2128 q2130 qs44 q125 q2131 (by decide +kernel) (so_le rfl)
theorem lk_X8_118_23 : ∀ k ∈ [23], jk_ RX8 (.invokevirtual 118) yX8_byteAt (ws_ yX8_byteAt cX8_byteAt 2 (Option.some Jvm.ClassFile.FieldType.int)) (2, jw_nm k) 2 := by
  intro k hk
  obtain rfl := so_m1 hk
  exact jk_V q2132 q2134 qs45 q125 q2135 (by decide +kernel) (so_le rfl)
theorem lk_X8_196_23 : ∀ k ∈ [23], jk_ RX8 (.invokevirtual 196) yX8_clause (ws_ yX8_clause cX8_clause 6 (Option.none : Option Jvm.ClassFile.FieldType)) (2, jw_nm k) 1 := by
  intro k hk
  obtain rfl := so_m1 hk
  exact jk_V q2136 q2138 qs46 q125 q2139 (by decide +kernel) (so_le rfl)
theorem lk_X8_172_23 : ∀ k ∈ [23], jk_ RX8 (.invokevirtual 172) yX8_kindHere (ws_ yX8_kindHere cX8_kindHere 1 (Option.some Jvm.ClassFile.FieldType.int)) (2, jw_nm k) 1 := by
  intro k hk
  obtain rfl := so_m1 hk
  exact jk_V q2140 q2142 qs47 q125 q2143 (by decide +kernel) (so_le rfl)
theorem lk_X8_155_23 : ∀ k ∈ [23], jk_ RX8 (.invokevirtual 155) yX8_isWord (ws_ yX8_isWord cX8_isWord 7 (Option.some Jvm.ClassFile.FieldType.boolean)) (2, jw_nm k) 7 := by
  intro k hk
  obtain rfl := so_m1 hk
  exact jk_V q2144 q2146 qs48 q125 q2147 (by decide +kernel) (so_le rfl)
theorem lk_X8_147_23 : ∀ k ∈ [23], jk_ RX8 (.invokevirtual 147) yX8_wordHere (ws_ yX8_wordHere cX8_wordHere 3 (Option.some Jvm.ClassFile.FieldType.int)) (2, jw_nm k) 1 := by
  intro k hk
  obtain rfl := so_m1 hk
  exact jk_V q2148 q2150 qs49 q125 q2151 (by decide +kernel) (so_le rfl)
theorem lk_X8_144 : jk_ RX8 (.invokestatic 144) yX8_isSmall (ws_ yX8_isSmall cX8_isSmall 1 (Option.some Jvm.ClassFile.FieldType.boolean)) (0, "") 1 := jk_S q2152 q2153 q125 q2154 (by decide +kernel) (so_le rfl)
theorem lk_X8_151 : jk_ RX8 (.invokestatic 151) yX8_six (ws_ yX8_six cX8_six 7 (Option.some Jvm.ClassFile.FieldType.int)) (0, "") 6 := jk_S q2155 q2156 q125 q2157 (by decide +kernel) (so_le rfl)
theorem lk_X8_135_23 : ∀ k ∈ [23], jk_ RX8 (.invokevirtual 135) yX8_wrong (ws_ yX8_wrong cX8_wrong 3 (Option.none : Option Jvm.ClassFile.FieldType)) (2, jw_nm k) 3 := by
  intro k hk
  obtain rfl := so_m1 hk
  exact jk_V q2158 q2160 qs50 q125 q2161 (by decide +kernel) (so_le rfl)
theorem lk_X8_159_23 : ∀ k ∈ [23], jk_ RX8 (.invokevirtual 159) yX8_skipWord (ws_ yX8_skipWord cX8_skipWord 1 (Option.none : Option Jvm.ClassFile.FieldType)) (2, jw_nm k) 1 := by
  intro k hk
  obtain rfl := so_m1 hk
  exact jk_V q2165 q2167 qs51 q125 q2168 (by decide +kernel) (so_le rfl)
theorem lk_X8_168_23 : ∀ k ∈ [23], jk_ RX8 (.invokevirtual 168) yX8_number (ws_ yX8_number cX8_number 5 (Option.some Jvm.ClassFile.FieldType.int)) (2, jw_nm k) 3 := by
  intro k hk
  obtain rfl := so_m1 hk
  exact jk_V q2169 q2171 qs52 q125 q2172 (by decide +kernel) (so_le rfl)
theorem lk_X8_131 : jk_ RX8 (.invokestatic 131) yX8_isDigit (ws_ yX8_isDigit cX8_isDigit 1 (Option.some Jvm.ClassFile.FieldType.boolean)) (0, "") 1 := jk_S q2173 q2174 q125 q2175 (by decide +kernel) (so_le rfl)
theorem lk_X8_185_23 : ∀ k ∈ [23], jk_ RX8 (.invokevirtual 185) yX8_sign (ws_ yX8_sign cX8_sign 2 (Option.none : Option Jvm.ClassFile.FieldType)) (2, jw_nm k) 2 := by
  intro k hk
  obtain rfl := so_m1 hk
  exact jk_V q2185 q2187 qs55 q125 q2188 (by decide +kernel) (so_le rfl)
theorem lk_X8_178_23 : ∀ k ∈ [23], jk_ RX8 (.invokevirtual 178) yX8_readHouse (ws_ yX8_readHouse cX8_readHouse 1 (Option.some Jvm.ClassFile.FieldType.int)) (2, jw_nm k) 1 := by
  intro k hk
  obtain rfl := so_m1 hk
  exact jk_V q2177 q2179 qs53 q125 q2180 (by decide +kernel) (so_le rfl)
theorem lk_X8_181_23 : ∀ k ∈ [23], jk_ RX8 (.invokevirtual 181) yX8_isReadWall (ws_ yX8_isReadWall cX8_isReadWall 4 (Option.some Jvm.ClassFile.FieldType.boolean)) (2, jw_nm k) 3 := by
  intro k hk
  obtain rfl := so_m1 hk
  exact jk_V q2181 q2183 qs54 q125 q2184 (by decide +kernel) (so_le rfl)
theorem lk_X8_175 : jk_ RX8 (.invokestatic 175) yX8_mostOf (ws_ yX8_mostOf cX8_mostOf 1 (Option.some Jvm.ClassFile.FieldType.int)) (0, "") 1 := jk_S q2162 q2163 q125 q2164 (by decide +kernel) (so_le rfl)
theorem lk_X8_199_23 : ∀ k ∈ [23], jk_ RX8 (.invokevirtual 199) yX8_ends (ws_ yX8_ends cX8_ends 1 (Option.some Jvm.ClassFile.FieldType.int)) (2, jw_nm k) 1 := by
  intro k hk
  obtain rfl := so_m1 hk
  exact jk_V q2189 q2191 qs56 q125 q2192 (by decide +kernel) (so_le rfl)
theorem lk_X8_243_23 : ∀ k ∈ [23], jk_ RX8 (.invokevirtual 243) yX8_sum (ws_ yX8_sum cX8_sum 2 (Option.none : Option Jvm.ClassFile.FieldType)) (2, jw_nm k) 1 := by
  intro k hk
  obtain rfl := so_m1 hk
  exact jk_V q2197 q2199 qs57 q125 q2200 (by decide +kernel) (so_le rfl)
theorem lk_X8_224_23 : ∀ k ∈ [23], jk_ RX8 (.invokevirtual 224) yX8_product (ws_ yX8_product cX8_product 2 (Option.none : Option Jvm.ClassFile.FieldType)) (2, jw_nm k) 1 := by
  intro k hk
  obtain rfl := so_m1 hk
  exact jk_V q2201 q2203 qs58 q125 q2204 (by decide +kernel) (so_le rfl)
theorem lk_X8_233_23 : ∀ k ∈ [23], jk_ RX8 (.invokevirtual 233) yX8_one (ws_ yX8_one cX8_one 3 (Option.none : Option Jvm.ClassFile.FieldType)) (2, jw_nm k) 1 := by
  intro k hk
  obtain rfl := so_m1 hk
  exact jk_V q2205 q2207 qs59 q125 q2208 (by decide +kernel) (so_le rfl)
theorem lk_X8_239_23 : ∀ k ∈ [23], jk_ RX8 (.invokevirtual 239) yX8_opensOne (ws_ yX8_opensOne cX8_opensOne 1 (Option.some Jvm.ClassFile.FieldType.boolean)) (2, jw_nm k) 1 := by
  intro k hk
  obtain rfl := so_m1 hk
  exact jk_V q2209 q2211 qs60 q125 q2212 (by decide +kernel) (so_le rfl)
theorem lk_X8_230_23 : ∀ k ∈ [23], jk_ RX8 (.invokevirtual 230) yX8_notes (ws_ yX8_notes cX8_notes 3 (Option.none : Option Jvm.ClassFile.FieldType)) (2, jw_nm k) 3 := by
  intro k hk
  obtain rfl := so_m1 hk
  exact jk_V q2213 q2215 qs61 q125 q2216 (by decide +kernel) (so_le rfl)
theorem lk_X8_246_23 : ∀ k ∈ [23], jk_ RX8 (.invokevirtual 246) yX8_knownHere (ws_ yX8_knownHere cX8_knownHere 1 (Option.some Jvm.ClassFile.FieldType.int)) (2, jw_nm k) 1 := by
  intro k hk
  obtain rfl := so_m1 hk
  exact jk_V q2217 q2219 qs62 q125 q2220 (by decide +kernel) (so_le rfl)
theorem lk_X8_236_23 : ∀ k ∈ [23], jk_ RX8 (.invokevirtual 236) yX8_takes (ws_ yX8_takes cX8_takes 8 (Option.some Jvm.ClassFile.FieldType.boolean)) (2, jw_nm k) 7 := by
  intro k hk
  obtain rfl := so_m1 hk
  exact jk_V q2221 q2223 qs63 q125 q2224 (by decide +kernel) (so_le rfl)
theorem lk_X8_227_23 : ∀ k ∈ [23], jk_ RX8 (.invokevirtual 227) yX8_takesSign (ws_ yX8_takesSign cX8_takesSign 3 (Option.some Jvm.ClassFile.FieldType.boolean)) (2, jw_nm k) 2 := by
  intro k hk
  obtain rfl := so_m1 hk
  exact jk_V q2225 q2227 qs64 q125 q2228 (by decide +kernel) (so_le rfl)
theorem lk_X8_265_23 : ∀ k ∈ [23], jk_ RX8 (.invokevirtual 265) yX8_readsStep (ws_ yX8_readsStep cX8_readsStep 3 (Option.none : Option Jvm.ClassFile.FieldType)) (2, jw_nm k) 1 := by
  intro k hk
  obtain rfl := so_m1 hk
  exact jk_V q2241 q2243 qs65 q125 q2244 (by decide +kernel) (so_le rfl)
theorem lk_X8_259_23 : ∀ k ∈ [23], jk_ RX8 (.invokevirtual 259) yX8_stepHere (ws_ yX8_stepHere cX8_stepHere 1 (Option.some Jvm.ClassFile.FieldType.int)) (2, jw_nm k) 1 := by
  intro k hk
  obtain rfl := so_m1 hk
  exact jk_V q2245 q2247 qs66 q125 q2248 (by decide +kernel) (so_le rfl)
theorem lk_X8_319 : jk_ RX8 (.invokestatic 319) yX8_copies (ws_ yX8_copies cX8_copies 3 (Option.none : Option Jvm.ClassFile.FieldType)) (0, "") 2 := jk_S q2249 q2250 q125 q2251 (by decide +kernel) (so_le rfl)
theorem lk_X8_309_23 : ∀ k ∈ [23], jk_ RX8 (.invokevirtual 309) yX8_goes (ws_ yX8_goes cX8_goes 5 (Option.none : Option Jvm.ClassFile.FieldType)) (2, jw_nm k) 3 := by
  intro k hk
  obtain rfl := so_m1 hk
  exact jk_V q2252 q2254 qs67 q125 q2255 (by decide +kernel) (so_le rfl)
theorem lk_X8_312_23 : ∀ k ∈ [23], jk_ RX8 (.invokevirtual 312) yX8_does (ws_ yX8_does cX8_does 4 (Option.some Jvm.ClassFile.FieldType.boolean)) (2, jw_nm k) 3 := by
  intro k hk
  obtain rfl := so_m1 hk
  exact jk_V q2256 q2258 qs68 q125 q2259 (by decide +kernel) (so_le rfl)
theorem lk_X8_299_23 : ∀ k ∈ [23], jk_ RX8 (.invokevirtual 299) yX8_puts2 (ws_ yX8_puts2 cX8_puts2 4 (Option.some Jvm.ClassFile.FieldType.boolean)) (2, jw_nm k) 4 := by
  intro k hk
  obtain rfl := so_m1 hk
  exact jk_V q2260 q2262 qs69 q125 q2263 (by decide +kernel) (so_le rfl)
theorem lk_X8_293_23 : ∀ k ∈ [23], jk_ RX8 (.invokevirtual 293) yX8_pianoIn (ws_ yX8_pianoIn cX8_pianoIn 4 (Option.some Jvm.ClassFile.FieldType.int)) (2, jw_nm k) 3 := by
  intro k hk
  obtain rfl := so_m1 hk
  exact jk_V q2264 q2266 qs70 q125 q2267 (by decide +kernel) (so_le rfl)
theorem lk_X8_302_23 : ∀ k ∈ [23], jk_ RX8 (.invokevirtual 302) yX8_dayEnds (ws_ yX8_dayEnds cX8_dayEnds 4 (Option.none : Option Jvm.ClassFile.FieldType)) (2, jw_nm k) 2 := by
  intro k hk
  obtain rfl := so_m1 hk
  exact jk_V q2268 q2270 qs71 q125 q2271 (by decide +kernel) (so_le rfl)
theorem lk_X8_296_23 : ∀ k ∈ [23], jk_ RX8 (.invokevirtual 296) yX8_brings (ws_ yX8_brings cX8_brings 5 (Option.some Jvm.ClassFile.FieldType.int)) (2, jw_nm k) 3 := by
  intro k hk
  obtain rfl := so_m1 hk
  exact jk_V q2272 q2274 qs72 q125 q2275 (by decide +kernel) (so_le rfl)
theorem lk_X8_286_23 : ∀ k ∈ [23], jk_ RX8 (.invokevirtual 286) yX8_forceOf (ws_ yX8_forceOf cX8_forceOf 3 (Option.some Jvm.ClassFile.FieldType.int)) (2, jw_nm k) 3 := by
  intro k hk
  obtain rfl := so_m1 hk
  exact jk_V q2276 q2278 qs73 q125 q2279 (by decide +kernel) (so_le rfl)
theorem lk_X8_282_23 : ∀ k ∈ [23], jk_ RX8 (.invokevirtual 282) yX8_forceWith (ws_ yX8_forceWith cX8_forceWith 7 (Option.some Jvm.ClassFile.FieldType.int)) (2, jw_nm k) 4 := by
  intro k hk
  obtain rfl := so_m1 hk
  exact jk_V q2280 q2282 qs74 q125 q2283 (by decide +kernel) (so_le rfl)
theorem lk_X8_271_23 : ∀ k ∈ [23], jk_ RX8 (.invokevirtual 271) yX8_isBeside (ws_ yX8_isBeside cX8_isBeside 4 (Option.some Jvm.ClassFile.FieldType.boolean)) (2, jw_nm k) 4 := by
  intro k hk
  obtain rfl := so_m1 hk
  exact jk_V q2284 q2286 qs75 q125 q2287 (by decide +kernel) (so_le rfl)
theorem lk_X8_268_23 : ∀ k ∈ [23], jk_ RX8 (.invokevirtual 268) yX8_isWall (ws_ yX8_isWall cX8_isWall 4 (Option.some Jvm.ClassFile.FieldType.boolean)) (2, jw_nm k) 3 := by
  intro k hk
  obtain rfl := so_m1 hk
  exact jk_V q2288 q2290 qs76 q125 q2291 (by decide +kernel) (so_le rfl)
theorem lk_X8_278_23 : ∀ k ∈ [23], jk_ RX8 (.invokevirtual 278) yX8_forceBy (ws_ yX8_forceBy cX8_forceBy 9 (Option.some Jvm.ClassFile.FieldType.int)) (2, jw_nm k) 9 := by
  intro k hk
  obtain rfl := so_m1 hk
  exact jk_V q2292 q2294 qs77 q125 q2295 (by decide +kernel) (so_le rfl)
theorem lk_X8_275_23 : ∀ k ∈ [23], jk_ RX8 (.invokevirtual 275) yX8_byLaw (ws_ yX8_byLaw cX8_byLaw 3 (Option.some Jvm.ClassFile.FieldType.int)) (2, jw_nm k) 1 := by
  intro k hk
  obtain rfl := so_m1 hk
  exact jk_V q2296 q2298 qs78 q125 q2299 (by decide +kernel) (so_le rfl)
theorem lk_X8_255 : jk_ RX8 (.invokestatic 255) yX8_by (ws_ yX8_by cX8_by 3 (Option.some Jvm.ClassFile.FieldType.int)) (0, "") 3 := jk_S q2300 q2301 q125 q2302 (by decide +kernel) (so_le rfl)
theorem lk_X8_249 : jk_ RX8 (.invokestatic 249) yX8_less (ws_ yX8_less cX8_less 2 (Option.some Jvm.ClassFile.FieldType.int)) (0, "") 2 := jk_S q2303 q2304 q125 q2305 (by decide +kernel) (so_le rfl)
theorem lk_X8_252 : jk_ RX8 (.invokestatic 252) yX8_more (ws_ yX8_more cX8_more 2 (Option.some Jvm.ClassFile.FieldType.int)) (0, "") 2 := jk_S q2306 q2307 q125 q2308 (by decide +kernel) (so_le rfl)
theorem lk_X8_290_23 : ∀ k ∈ [23], jk_ RX8 (.invokevirtual 290) yX8_isFight (ws_ yX8_isFight cX8_isFight 4 (Option.some Jvm.ClassFile.FieldType.boolean)) (2, jw_nm k) 4 := by
  intro k hk
  obtain rfl := so_m1 hk
  exact jk_V q2309 q2311 qs79 q125 q2312 (by decide +kernel) (so_le rfl)
theorem lk_X8_329_23 : ∀ k ∈ [23], jk_ RX8 (.invokevirtual 329) yX8_fightsOf (ws_ yX8_fightsOf cX8_fightsOf 5 (Option.some Jvm.ClassFile.FieldType.int)) (2, jw_nm k) 3 := by
  intro k hk
  obtain rfl := so_m1 hk
  exact jk_V q2321 q2323 qs80 q125 q2324 (by decide +kernel) (so_le rfl)
theorem lk_X8_332_23 : ∀ k ∈ [23], jk_ RX8 (.invokevirtual 332) yX8_wishedIn (ws_ yX8_wishedIn cX8_wishedIn 4 (Option.some Jvm.ClassFile.FieldType.int)) (2, jw_nm k) 2 := by
  intro k hk
  obtain rfl := so_m1 hk
  exact jk_V q2325 q2327 qs81 q125 q2328 (by decide +kernel) (so_le rfl)
theorem lk_X8_326_23 : ∀ k ∈ [23], jk_ RX8 (.invokevirtual 326) yX8_thingOf (ws_ yX8_thingOf cX8_thingOf 5 (Option.some Jvm.ClassFile.FieldType.int)) (2, jw_nm k) 3 := by
  intro k hk
  obtain rfl := so_m1 hk
  exact jk_V q2329 q2331 qs82 q125 q2332 (by decide +kernel) (so_le rfl)
theorem lk_X8_323_23 : ∀ k ∈ [23], jk_ RX8 (.invokevirtual 323) yX8_amount (ws_ yX8_amount cX8_amount 4 (Option.some Jvm.ClassFile.FieldType.int)) (2, jw_nm k) 4 := by
  intro k hk
  obtain rfl := so_m1 hk
  exact jk_V q2333 q2335 qs83 q125 q2336 (by decide +kernel) (so_le rfl)
theorem lk_X8_336_23 : ∀ k ∈ [23], jk_ RX8 (.invokevirtual 336) yX8_allIn (ws_ yX8_allIn cX8_allIn 4 (Option.some Jvm.ClassFile.FieldType.int)) (2, jw_nm k) 2 := by
  intro k hk
  obtain rfl := so_m1 hk
  exact jk_V q2337 q2339 qs84 q125 q2340 (by decide +kernel) (so_le rfl)
theorem lk_X8_339_23 : ∀ k ∈ [23], jk_ RX8 (.invokevirtual 339) yX8_isHouse (ws_ yX8_isHouse cX8_isHouse 2 (Option.some Jvm.ClassFile.FieldType.boolean)) (2, jw_nm k) 2 := by
  intro k hk
  obtain rfl := so_m1 hk
  exact jk_V q2345 q2347 qs85 q125 q2348 (by decide +kernel) (so_le rfl)
theorem lk_X8_342 : jk_ RX8 (.invokestatic 342) yX8_isThing (ws_ yX8_isThing cX8_isThing 1 (Option.some Jvm.ClassFile.FieldType.boolean)) (0, "") 1 := jk_S q2353 q2354 q125 q2355 (by decide +kernel) (so_le rfl)
theorem lk_X8_345_23 : ∀ k ∈ [23], jk_ RX8 (.invokevirtual 345) yX8_isPiano (ws_ yX8_isPiano cX8_isPiano 2 (Option.some Jvm.ClassFile.FieldType.boolean)) (2, jw_nm k) 2 := by
  intro k hk
  obtain rfl := so_m1 hk
  exact jk_V q2364 q2366 qs86 q125 q2367 (by decide +kernel) (so_le rfl)
theorem lk_X8_354_23 : ∀ k ∈ [23], jk_ RX8 (.invokevirtual 354) yX8_placesAll (ws_ yX8_placesAll cX8_placesAll 2 (Option.none : Option Jvm.ClassFile.FieldType)) (2, jw_nm k) 1 := by
  intro k hk
  obtain rfl := so_m1 hk
  exact jk_V q2388 q2390 qs87 q125 q2391 (by decide +kernel) (so_le rfl)
theorem lk_X8_351_23 : ∀ k ∈ [23], jk_ RX8 (.invokevirtual 351) yX8_putsFrom (ws_ yX8_putsFrom cX8_putsFrom 6 (Option.none : Option Jvm.ClassFile.FieldType)) (2, jw_nm k) 3 := by
  intro k hk
  obtain rfl := so_m1 hk
  exact jk_V q2392 q2394 qs88 q125 q2395 (by decide +kernel) (so_le rfl)
theorem lk_X8_357_23 : ∀ k ∈ [23], jk_ RX8 (.invokevirtual 357) yX8_laysHeard (ws_ yX8_laysHeard cX8_laysHeard 6 (Option.none : Option Jvm.ClassFile.FieldType)) (2, jw_nm k) 4 := by
  intro k hk
  obtain rfl := so_m1 hk
  exact jk_V q2404 q2406 qs89 q125 q2407 (by decide +kernel) (so_le rfl)
theorem lk_X8_361_23 : ∀ k ∈ [23], jk_ RX8 (.invokevirtual 361) yX8_isHeard (ws_ yX8_isHeard cX8_isHeard 2 (Option.some Jvm.ClassFile.FieldType.boolean)) (2, jw_nm k) 1 := by
  intro k hk
  obtain rfl := so_m1 hk
  exact jk_V q2408 q2410 qs90 q125 q2411 (by decide +kernel) (so_le rfl)
theorem lk_X8_364_23 : ∀ k ∈ [23], jk_ RX8 (.invokevirtual 364) yX8_isTold (ws_ yX8_isTold cX8_isTold 3 (Option.some Jvm.ClassFile.FieldType.boolean)) (2, jw_nm k) 2 := by
  intro k hk
  obtain rfl := so_m1 hk
  exact jk_V q2416 q2418 qs91 q125 q2419 (by decide +kernel) (so_le rfl)
theorem lk_X8_367 : jk_ RX8 (.invokestatic 367) yX8_ones (ws_ yX8_ones cX8_ones 3 (Option.some Jvm.ClassFile.FieldType.int)) (0, "") 1 := jk_S q2428 q2429 q125 q2430 (by decide +kernel) (so_le rfl)
theorem lk_X8_370 : jk_ RX8 (.invokestatic 370) yX8_has (ws_ yX8_has cX8_has 2 (Option.some Jvm.ClassFile.FieldType.boolean)) (0, "") 2 := jk_S q2431 q2432 q125 q2433 (by decide +kernel) (so_le rfl)
theorem lk_X8_373 : jk_ RX8 (.invokestatic 373) yX8_hisBy (ws_ yX8_hisBy cX8_hisBy 3 (Option.some Jvm.ClassFile.FieldType.int)) (0, "") 3 := jk_S q2442 q2443 q125 q2444 (by decide +kernel) (so_le rfl)
theorem lk_X8_376 : jk_ RX8 (.invokestatic 376) yX8_itsBy (ws_ yX8_itsBy cX8_itsBy 4 (Option.some Jvm.ClassFile.FieldType.int)) (0, "") 4 := jk_S q2445 q2446 q125 q2447 (by decide +kernel) (so_le rfl)
theorem lk_X8_380_23 : ∀ k ∈ [23], jk_ RX8 (.invokevirtual 380) yX8_givenBy (ws_ yX8_givenBy cX8_givenBy 5 (Option.some Jvm.ClassFile.FieldType.int)) (2, jw_nm k) 3 := by
  intro k hk
  obtain rfl := so_m1 hk
  exact jk_V q2452 q2454 qs92 q125 q2455 (by decide +kernel) (so_le rfl)
theorem lk_X8_383_23 : ∀ k ∈ [23], jk_ RX8 (.invokevirtual 383) yX8_changedIn (ws_ yX8_changedIn cX8_changedIn 4 (Option.some Jvm.ClassFile.FieldType.int)) (2, jw_nm k) 2 := by
  intro k hk
  obtain rfl := so_m1 hk
  exact jk_V q2488 q2490 qs93 q125 q2491 (by decide +kernel) (so_le rfl)
theorem lk_X8_396 : jk_ RX8 (.invokestatic 396) yX8_isYear (ws_ yX8_isYear cX8_isYear 2 (Option.some Jvm.ClassFile.FieldType.boolean)) (0, "") 2 := jk_S q2496 q2497 q125 q2498 (by decide +kernel) (so_le rfl)
theorem lk_X8_399_23 : ∀ k ∈ [23], jk_ RX8 (.invokevirtual 399) yX8_yearBy (ws_ yX8_yearBy cX8_yearBy 6 (Option.none : Option Jvm.ClassFile.FieldType)) (2, jw_nm k) 4 := by
  intro k hk
  obtain rfl := so_m1 hk
  exact jk_V q2499 q2501 qs94 q125 q2502 (by decide +kernel) (so_le rfl)
theorem lk_X8_393_23 : ∀ k ∈ [23], jk_ RX8 (.invokevirtual 393) yX8_draw (ws_ yX8_draw cX8_draw 2 (Option.some Jvm.ClassFile.FieldType.int)) (2, jw_nm k) 2 := by
  intro k hk
  obtain rfl := so_m1 hk
  exact jk_V q2503 q2505 qs95 q125 q2506 (by decide +kernel) (so_le rfl)
theorem lk_X8_409_23 : ∀ k ∈ [23], jk_ RX8 (.invokevirtual 409) yX8_putsAll (ws_ yX8_putsAll cX8_putsAll 5 (Option.none : Option Jvm.ClassFile.FieldType)) (2, jw_nm k) 3 := by
  intro k hk
  obtain rfl := so_m1 hk
  exact jk_V q2516 q2518 qs96 q125 q2519 (by decide +kernel) (so_le rfl)
theorem lk_X8_405_23 : ∀ k ∈ [23], jk_ RX8 (.invokevirtual 405) yX8_puts (ws_ yX8_puts cX8_puts 4 (Option.some Jvm.ClassFile.FieldType.int)) (2, jw_nm k) 4 := by
  intro k hk
  obtain rfl := so_m1 hk
  exact jk_V q2520 q2522 qs97 q125 q2523 (by decide +kernel) (so_le rfl)
theorem fl_X1_41_0 : jf_ RX1 41 [0] 4 true := by
  intro ci hc
  simp only [List.mem_cons, List.not_mem_nil, or_false] at hc
  subst hc
  exact ⟨RX1, TX1, 26, "TunedHouses", so_le rfl, rfl, in_X1, so_le rfl, rfl, rfl, (Or.inl q654), (fun _ _ _ _ g => g)⟩
theorem fp_X9_9_2_5_13_19 : jfp_ RX9 9 [2, 5, 13, 19] 0 true true (.array .byte) := by
  intro ci hc
  simp only [List.mem_cons, List.not_mem_nil, or_false] at hc
  rcases hc with rfl | rfl | rfl | rfl
  · exact ⟨RX10, TX10, 6, "TunedHouses$Reader", tyX10, so_le rfl, rfl, in_X10, so_le rfl, rfl, rfl, (Or.inl q896), (fun _ _ _ _ g => g), tyX10_ok, nmX10, rfl, (by decide +kernel), fun _ => rfl⟩
  · exact ⟨RX13, TX13, 5, "TunedHouses$Reader", tyX13, so_le rfl, rfl, in_X13, so_le rfl, rfl, rfl, (Or.inl q896), (fun _ _ _ _ g => g), tyX13_ok, nmX13, rfl, (by decide +kernel), fun _ => rfl⟩
  · exact ⟨RX21, TX21, 6, "TunedHouses$Reader", tyX21, so_le rfl, rfl, in_X21, so_le rfl, rfl, rfl, (Or.inl q896), (fun _ _ _ _ g => g), tyX21_ok, nmX21, rfl, (by decide +kernel), fun _ => rfl⟩
  · exact ⟨RX29, TX29, 7, "TunedHouses$Reader", tyX29, so_le rfl, rfl, in_X29, so_le rfl, rfl, rfl, (Or.inl q896), (fun _ _ _ _ g => g), tyX29_ok, nmX29, rfl, (by decide +kernel), fun _ => rfl⟩
theorem fp_X9_15_2_5_13_19 : jfp_ RX9 15 [2, 5, 13, 19] 1 false true .int := by
  intro ci hc
  simp only [List.mem_cons, List.not_mem_nil, or_false] at hc
  rcases hc with rfl | rfl | rfl | rfl
  · exact ⟨RX10, TX10, 6, "TunedHouses$Reader", tyX10, so_le rfl, rfl, in_X10, so_le rfl, rfl, rfl, (Or.inl q897), (fun _ _ _ _ g => g), tyX10_ok, nmX10, rfl, (by decide +kernel), fun _ => rfl⟩
  · exact ⟨RX13, TX13, 5, "TunedHouses$Reader", tyX13, so_le rfl, rfl, in_X13, so_le rfl, rfl, rfl, (Or.inl q897), (fun _ _ _ _ g => g), tyX13_ok, nmX13, rfl, (by decide +kernel), fun _ => rfl⟩
  · exact ⟨RX21, TX21, 6, "TunedHouses$Reader", tyX21, so_le rfl, rfl, in_X21, so_le rfl, rfl, rfl, (Or.inl q897), (fun _ _ _ _ g => g), tyX21_ok, nmX21, rfl, (by decide +kernel), fun _ => rfl⟩
  · exact ⟨RX29, TX29, 7, "TunedHouses$Reader", tyX29, so_le rfl, rfl, in_X29, so_le rfl, rfl, rfl, (Or.inl q897), (fun _ _ _ _ g => g), tyX29_ok, nmX29, rfl, (by decide +kernel), fun _ => rfl⟩
theorem fp_J1_7_24 : jfp_ RJ1 7 [24] 0 false false .int := by
  intro ci hc
  simp only [List.mem_cons, List.not_mem_nil, or_false] at hc
  subst hc
  exact ⟨RJ2, TJ2, 3, "java/util/AbstractList", tyJ2, so_le rfl, rfl, in_J2, so_le rfl, rfl, rfl, (Or.inl q496), (fun _ _ _ _ g => g), tyJ2_ok, nmJ2, rfl, (by decide +kernel), fun h => by cases h⟩
theorem fp_J2_9_24 : jfp_ RJ2 9 [24] 1 true false (.array (.object "java/lang/Object")) := by
  intro ci hc
  simp only [List.mem_cons, List.not_mem_nil, or_false] at hc
  subst hc
  exact ⟨RJ2, TJ2, 3, "java/util/ArrayList", tyJ2, so_le rfl, rfl, in_J2, so_le rfl, rfl, rfl, (Or.inl q494), (fun _ _ _ _ g => g), tyJ2_ok, nmJ2, rfl, (by decide +kernel), fun h => by cases h⟩
theorem fp_X2_9_1 : jfp_ RX2 9 [1] 0 true true (.array .int) := by
  intro ci hc
  simp only [List.mem_cons, List.not_mem_nil, or_false] at hc
  subst hc
  exact ⟨RX2, TX2, 10, "TunedHouses$Told", tyX2, so_le rfl, rfl, in_X2, so_le rfl, rfl, rfl, (Or.inl q506), (fun _ _ _ _ g => g), tyX2_ok, nmX2, rfl, (by decide +kernel), fun _ => rfl⟩
theorem fp_X2_15_1 : jfp_ RX2 15 [1] 1 true true (.array .int) := by
  intro ci hc
  simp only [List.mem_cons, List.not_mem_nil, or_false] at hc
  subst hc
  exact ⟨RX2, TX2, 10, "TunedHouses$Told", tyX2, so_le rfl, rfl, in_X2, so_le rfl, rfl, rfl, (Or.inl q510), (fun _ _ _ _ g => g), tyX2_ok, nmX2, rfl, (by decide +kernel), fun _ => rfl⟩
theorem fp_X2_18_1 : jfp_ RX2 18 [1] 2 true true (.array .int) := by
  intro ci hc
  simp only [List.mem_cons, List.not_mem_nil, or_false] at hc
  subst hc
  exact ⟨RX2, TX2, 10, "TunedHouses$Told", tyX2, so_le rfl, rfl, in_X2, so_le rfl, rfl, rfl, (Or.inl q513), (fun _ _ _ _ g => g), tyX2_ok, nmX2, rfl, (by decide +kernel), fun _ => rfl⟩
theorem fp_X2_21_1 : jfp_ RX2 21 [1] 3 true true (.array .int) := by
  intro ci hc
  simp only [List.mem_cons, List.not_mem_nil, or_false] at hc
  subst hc
  exact ⟨RX2, TX2, 10, "TunedHouses$Told", tyX2, so_le rfl, rfl, in_X2, so_le rfl, rfl, rfl, (Or.inl q517), (fun _ _ _ _ g => g), tyX2_ok, nmX2, rfl, (by decide +kernel), fun _ => rfl⟩
theorem fp_X2_24_1 : jfp_ RX2 24 [1] 4 true true (.array .int) := by
  intro ci hc
  simp only [List.mem_cons, List.not_mem_nil, or_false] at hc
  subst hc
  exact ⟨RX2, TX2, 10, "TunedHouses$Told", tyX2, so_le rfl, rfl, in_X2, so_le rfl, rfl, rfl, (Or.inl q519), (fun _ _ _ _ g => g), tyX2_ok, nmX2, rfl, (by decide +kernel), fun _ => rfl⟩
theorem fp_X2_32_1 : jfp_ RX2 32 [1] 5 true true (.object "java/util/ArrayList") := by
  intro ci hc
  simp only [List.mem_cons, List.not_mem_nil, or_false] at hc
  subst hc
  exact ⟨RX2, TX2, 10, "TunedHouses$Told", tyX2, so_le rfl, rfl, in_X2, so_le rfl, rfl, rfl, (Or.inl q521), (fun _ _ _ _ g => g), tyX2_ok, nmX2, rfl, (by decide +kernel), fun _ => rfl⟩
theorem fp_X2_36_1 : jfp_ RX2 36 [1] 8 false false .int := by
  intro ci hc
  simp only [List.mem_cons, List.not_mem_nil, or_false] at hc
  subst hc
  exact ⟨RX2, TX2, 10, "TunedHouses$Told", tyX2, so_le rfl, rfl, in_X2, so_le rfl, rfl, rfl, (Or.inl q532), (fun _ _ _ _ g => g), tyX2_ok, nmX2, rfl, (by decide +kernel), fun h => by cases h⟩
theorem fp_X10_14_2 : jfp_ RX10 14 [2] 5 true true (.object "TunedHouses$Told") := by
  intro ci hc
  simp only [List.mem_cons, List.not_mem_nil, or_false] at hc
  subst hc
  exact ⟨RX10, TX10, 6, "TunedHouses$TerraceReader", tyX10, so_le rfl, rfl, in_X10, so_le rfl, rfl, rfl, (Or.inl q895), (fun _ _ _ _ g => g), tyX10_ok, nmX10, rfl, (by decide +kernel), fun _ => rfl⟩
theorem fl_X9_19_2_5_13_19 : jf_ RX9 19 [2, 5, 13, 19] 2 false := by
  intro ci hc
  simp only [List.mem_cons, List.not_mem_nil, or_false] at hc
  rcases hc with rfl | rfl | rfl | rfl
  · exact ⟨RX10, TX10, 6, "TunedHouses$Reader", so_le rfl, rfl, in_X10, so_le rfl, rfl, rfl, (Or.inl q906), (fun _ _ _ _ g => g)⟩
  · exact ⟨RX13, TX13, 5, "TunedHouses$Reader", so_le rfl, rfl, in_X13, so_le rfl, rfl, rfl, (Or.inl q906), (fun _ _ _ _ g => g)⟩
  · exact ⟨RX21, TX21, 6, "TunedHouses$Reader", so_le rfl, rfl, in_X21, so_le rfl, rfl, rfl, (Or.inl q906), (fun _ _ _ _ g => g)⟩
  · exact ⟨RX29, TX29, 7, "TunedHouses$Reader", so_le rfl, rfl, in_X29, so_le rfl, rfl, rfl, (Or.inl q906), (fun _ _ _ _ g => g)⟩
theorem fl_X9_15_2_5_13_19 : jf_ RX9 15 [2, 5, 13, 19] 1 false := by
  intro ci hc
  simp only [List.mem_cons, List.not_mem_nil, or_false] at hc
  rcases hc with rfl | rfl | rfl | rfl
  · exact ⟨RX10, TX10, 6, "TunedHouses$Reader", so_le rfl, rfl, in_X10, so_le rfl, rfl, rfl, (Or.inl q897), (fun _ _ _ _ g => g)⟩
  · exact ⟨RX13, TX13, 5, "TunedHouses$Reader", so_le rfl, rfl, in_X13, so_le rfl, rfl, rfl, (Or.inl q897), (fun _ _ _ _ g => g)⟩
  · exact ⟨RX21, TX21, 6, "TunedHouses$Reader", so_le rfl, rfl, in_X21, so_le rfl, rfl, rfl, (Or.inl q897), (fun _ _ _ _ g => g)⟩
  · exact ⟨RX29, TX29, 7, "TunedHouses$Reader", so_le rfl, rfl, in_X29, so_le rfl, rfl, rfl, (Or.inl q897), (fun _ _ _ _ g => g)⟩
theorem fl_X9_9_2_5_13_19 : jf_ RX9 9 [2, 5, 13, 19] 0 true := by
  intro ci hc
  simp only [List.mem_cons, List.not_mem_nil, or_false] at hc
  rcases hc with rfl | rfl | rfl | rfl
  · exact ⟨RX10, TX10, 6, "TunedHouses$Reader", so_le rfl, rfl, in_X10, so_le rfl, rfl, rfl, (Or.inl q896), (fun _ _ _ _ g => g)⟩
  · exact ⟨RX13, TX13, 5, "TunedHouses$Reader", so_le rfl, rfl, in_X13, so_le rfl, rfl, rfl, (Or.inl q896), (fun _ _ _ _ g => g)⟩
  · exact ⟨RX21, TX21, 6, "TunedHouses$Reader", so_le rfl, rfl, in_X21, so_le rfl, rfl, rfl, (Or.inl q896), (fun _ _ _ _ g => g)⟩
  · exact ⟨RX29, TX29, 7, "TunedHouses$Reader", so_le rfl, rfl, in_X29, so_le rfl, rfl, rfl, (Or.inl q896), (fun _ _ _ _ g => g)⟩
theorem fp_X9_19_2_5_13_19 : jfp_ RX9 19 [2, 5, 13, 19] 2 false false .int := by
  intro ci hc
  simp only [List.mem_cons, List.not_mem_nil, or_false] at hc
  rcases hc with rfl | rfl | rfl | rfl
  · exact ⟨RX10, TX10, 6, "TunedHouses$Reader", tyX10, so_le rfl, rfl, in_X10, so_le rfl, rfl, rfl, (Or.inl q906), (fun _ _ _ _ g => g), tyX10_ok, nmX10, rfl, (by decide +kernel), fun h => by cases h⟩
  · exact ⟨RX13, TX13, 5, "TunedHouses$Reader", tyX13, so_le rfl, rfl, in_X13, so_le rfl, rfl, rfl, (Or.inl q906), (fun _ _ _ _ g => g), tyX13_ok, nmX13, rfl, (by decide +kernel), fun h => by cases h⟩
  · exact ⟨RX21, TX21, 6, "TunedHouses$Reader", tyX21, so_le rfl, rfl, in_X21, so_le rfl, rfl, rfl, (Or.inl q906), (fun _ _ _ _ g => g), tyX21_ok, nmX21, rfl, (by decide +kernel), fun h => by cases h⟩
  · exact ⟨RX29, TX29, 7, "TunedHouses$Reader", tyX29, so_le rfl, rfl, in_X29, so_le rfl, rfl, rfl, (Or.inl q906), (fun _ _ _ _ g => g), tyX29_ok, nmX29, rfl, (by decide +kernel), fun h => by cases h⟩
theorem fp_J7_15_25 : jfp_ RJ7 15 [25] 0 true false (.array .byte) := by
  intro ci hc
  simp only [List.mem_cons, List.not_mem_nil, or_false] at hc
  subst hc
  exact ⟨RJ8, TJ8, 4, "java/lang/AbstractStringBuilder", tyJ8, so_le rfl, rfl, in_J8, so_le rfl, rfl, rfl, (Or.inl q238), (fun _ _ _ _ g => g), tyJ8_ok, nmJ8, rfl, (by decide +kernel), fun h => by cases h⟩
theorem fp_J7_22_25 : jfp_ RJ7 22 [25] 1 false false .byte := by
  intro ci hc
  simp only [List.mem_cons, List.not_mem_nil, or_false] at hc
  subst hc
  exact ⟨RJ8, TJ8, 4, "java/lang/AbstractStringBuilder", tyJ8, so_le rfl, rfl, in_J8, so_le rfl, rfl, rfl, (Or.inl q239), (fun _ _ _ _ g => g), tyJ8_ok, nmJ8, rfl, (by decide +kernel), fun h => by cases h⟩
theorem fl_J7_79_25 : jf_ RJ7 79 [25] 3 false := by
  intro ci hc
  simp only [List.mem_cons, List.not_mem_nil, or_false] at hc
  subst hc
  exact ⟨RJ8, TJ8, 4, "java/lang/AbstractStringBuilder", so_le rfl, rfl, in_J8, so_le rfl, rfl, rfl, (Or.inl q241), (fun _ _ _ _ g => g)⟩
theorem fl_J7_15_25 : jf_ RJ7 15 [25] 0 true := by
  intro ci hc
  simp only [List.mem_cons, List.not_mem_nil, or_false] at hc
  subst hc
  exact ⟨RJ8, TJ8, 4, "java/lang/AbstractStringBuilder", so_le rfl, rfl, in_J8, so_le rfl, rfl, rfl, (Or.inl q238), (fun _ _ _ _ g => g)⟩
theorem fl_J7_22_25 : jf_ RJ7 22 [25] 1 false := by
  intro ci hc
  simp only [List.mem_cons, List.not_mem_nil, or_false] at hc
  subst hc
  exact ⟨RJ8, TJ8, 4, "java/lang/AbstractStringBuilder", so_le rfl, rfl, in_J8, so_le rfl, rfl, rfl, (Or.inl q239), (fun _ _ _ _ g => g)⟩
theorem fp_J7_79_25 : jfp_ RJ7 79 [25] 3 false false .int := by
  intro ci hc
  simp only [List.mem_cons, List.not_mem_nil, or_false] at hc
  subst hc
  exact ⟨RJ8, TJ8, 4, "java/lang/AbstractStringBuilder", tyJ8, so_le rfl, rfl, in_J8, so_le rfl, rfl, rfl, (Or.inl q241), (fun _ _ _ _ g => g), tyJ8_ok, nmJ8, rfl, (by decide +kernel), fun h => by cases h⟩
theorem fp_J9_15_26 : jfp_ RJ9 15 [26] 1 false true .byte := by
  intro ci hc
  simp only [List.mem_cons, List.not_mem_nil, or_false] at hc
  subst hc
  exact ⟨RJ9, TJ9, 4, "java/lang/String", tyJ9, so_le rfl, rfl, in_J9, so_le rfl, rfl, rfl, (Or.inl q481), (fun _ _ _ _ g => g), tyJ9_ok, nmJ9, rfl, (by decide +kernel), fun _ => rfl⟩
theorem fp_J9_9_26 : jfp_ RJ9 9 [26] 0 true true (.array .byte) := by
  intro ci hc
  simp only [List.mem_cons, List.not_mem_nil, or_false] at hc
  subst hc
  exact ⟨RJ9, TJ9, 4, "java/lang/String", tyJ9, so_le rfl, rfl, in_J9, so_le rfl, rfl, rfl, (Or.inl q480), (fun _ _ _ _ g => g), tyJ9_ok, nmJ9, rfl, (by decide +kernel), fun _ => rfl⟩
theorem fl_J9_1048_25 : jf_ RJ9 1048 [25] 2 false := by
  intro ci hc
  simp only [List.mem_cons, List.not_mem_nil, or_false] at hc
  subst hc
  exact ⟨RJ8, TJ8, 4, "java/lang/AbstractStringBuilder", so_le rfl, rfl, in_J8, so_le rfl, rfl, rfl, (Or.inl q240), (fun _ _ _ _ g => g)⟩
theorem fl_J9_15_26 : jf_ RJ9 15 [26] 1 false := by
  intro ci hc
  simp only [List.mem_cons, List.not_mem_nil, or_false] at hc
  subst hc
  exact ⟨RJ9, TJ9, 4, "java/lang/String", so_le rfl, rfl, in_J9, so_le rfl, rfl, rfl, (Or.inl q481), (fun _ _ _ _ g => g)⟩
theorem fl_J9_19_26 : jf_ RJ9 19 [26] 2 false := by
  intro ci hc
  simp only [List.mem_cons, List.not_mem_nil, or_false] at hc
  subst hc
  exact ⟨RJ9, TJ9, 4, "java/lang/String", so_le rfl, rfl, in_J9, so_le rfl, rfl, rfl, (Or.inl q482), (fun _ _ _ _ g => g)⟩
theorem fl_J9_23_26 : jf_ RJ9 23 [26] 3 false := by
  intro ci hc
  simp only [List.mem_cons, List.not_mem_nil, or_false] at hc
  subst hc
  exact ⟨RJ9, TJ9, 4, "java/lang/String", so_le rfl, rfl, in_J9, so_le rfl, rfl, rfl, (Or.inl q483), (fun _ _ _ _ g => g)⟩
theorem fl_J9_9_26 : jf_ RJ9 9 [26] 0 true := by
  intro ci hc
  simp only [List.mem_cons, List.not_mem_nil, or_false] at hc
  subst hc
  exact ⟨RJ9, TJ9, 4, "java/lang/String", so_le rfl, rfl, in_J9, so_le rfl, rfl, rfl, (Or.inl q480), (fun _ _ _ _ g => g)⟩
theorem fp_J9_19_26 : jfp_ RJ9 19 [26] 2 false false .int := by
  intro ci hc
  simp only [List.mem_cons, List.not_mem_nil, or_false] at hc
  subst hc
  exact ⟨RJ9, TJ9, 4, "java/lang/String", tyJ9, so_le rfl, rfl, in_J9, so_le rfl, rfl, rfl, (Or.inl q482), (fun _ _ _ _ g => g), tyJ9_ok, nmJ9, rfl, (by decide +kernel), fun h => by cases h⟩
theorem fp_J9_23_26 : jfp_ RJ9 23 [26] 3 false false .boolean := by
  intro ci hc
  simp only [List.mem_cons, List.not_mem_nil, or_false] at hc
  subst hc
  exact ⟨RJ9, TJ9, 4, "java/lang/String", tyJ9, so_le rfl, rfl, in_J9, so_le rfl, rfl, rfl, (Or.inl q483), (fun _ _ _ _ g => g), tyJ9_ok, nmJ9, rfl, (by decide +kernel), fun h => by cases h⟩
theorem fl_J2_48_24 : jf_ RJ2 48 [24] 2 false := by
  intro ci hc
  simp only [List.mem_cons, List.not_mem_nil, or_false] at hc
  subst hc
  exact ⟨RJ2, TJ2, 3, "java/util/ArrayList", so_le rfl, rfl, in_J2, so_le rfl, rfl, rfl, (Or.inl q495), (fun _ _ _ _ g => g)⟩
theorem fl_X10_14_2 : jf_ RX10 14 [2] 5 true := by
  intro ci hc
  simp only [List.mem_cons, List.not_mem_nil, or_false] at hc
  subst hc
  exact ⟨RX10, TX10, 6, "TunedHouses$TerraceReader", so_le rfl, rfl, in_X10, so_le rfl, rfl, rfl, (Or.inl q895), (fun _ _ _ _ g => g)⟩
theorem fl_X10_47_1 : jf_ RX10 47 [1] 9 false := by
  intro ci hc
  simp only [List.mem_cons, List.not_mem_nil, or_false] at hc
  subst hc
  exact ⟨RX2, TX2, 10, "TunedHouses$Told", so_le rfl, rfl, in_X2, so_le rfl, rfl, rfl, (Or.inr ⟨_, q535⟩), (fun _ _ _ _ g => g)⟩
theorem fl_X10_65_1 : jf_ RX10 65 [1] 6 false := by
  intro ci hc
  simp only [List.mem_cons, List.not_mem_nil, or_false] at hc
  subst hc
  exact ⟨RX2, TX2, 10, "TunedHouses$Told", so_le rfl, rfl, in_X2, so_le rfl, rfl, rfl, (Or.inr ⟨_, q526⟩), (fun _ _ _ _ g => g)⟩
theorem fl_X10_68_1 : jf_ RX10 68 [1] 7 false := by
  intro ci hc
  simp only [List.mem_cons, List.not_mem_nil, or_false] at hc
  subst hc
  exact ⟨RX2, TX2, 10, "TunedHouses$Told", so_le rfl, rfl, in_X2, so_le rfl, rfl, rfl, (Or.inr ⟨_, q530⟩), (fun _ _ _ _ g => g)⟩
theorem fl_X10_71_1 : jf_ RX10 71 [1] 5 true := by
  intro ci hc
  simp only [List.mem_cons, List.not_mem_nil, or_false] at hc
  subst hc
  exact ⟨RX2, TX2, 10, "TunedHouses$Told", so_le rfl, rfl, in_X2, so_le rfl, rfl, rfl, (Or.inr ⟨_, q523⟩), (fun _ _ _ _ g => g)⟩
theorem fp_J3_7_3 : jfp_ RJ3 7 [3] 0 true false (.object "java/lang/Throwable") := by
  intro ci hc
  simp only [List.mem_cons, List.not_mem_nil, or_false] at hc
  subst hc
  exact ⟨RX11, TX11, 8, "java/lang/Throwable", tyX11, so_le rfl, rfl, in_X11, so_le rfl, rfl, rfl, (Or.inl q456), (fun _ _ _ _ g => g), tyX11_ok, nmX11, rfl, (by decide +kernel), fun h => by cases h⟩
theorem fp_J3_17_3 : jfp_ RJ3 17 [3] 1 true false (.array (.object "java/lang/StackTraceElement")) := by
  intro ci hc
  simp only [List.mem_cons, List.not_mem_nil, or_false] at hc
  subst hc
  exact ⟨RX11, TX11, 8, "java/lang/Throwable", tyX11, so_le rfl, rfl, in_X11, so_le rfl, rfl, rfl, (Or.inl q457), (fun _ _ _ _ g => g), tyX11_ok, nmX11, rfl, (by decide +kernel), fun h => by cases h⟩
theorem fp_J3_24_3 : jfp_ RJ3 24 [3] 2 true false (.object "java/util/List") := by
  intro ci hc
  simp only [List.mem_cons, List.not_mem_nil, or_false] at hc
  subst hc
  exact ⟨RX11, TX11, 8, "java/lang/Throwable", tyX11, so_le rfl, rfl, in_X11, so_le rfl, rfl, rfl, (Or.inl q458), (fun _ _ _ _ g => g), tyX11_ok, nmX11, rfl, (by decide +kernel), fun h => by cases h⟩
theorem fp_J3_31_3 : jfp_ RJ3 31 [3] 3 true false (.object "java/lang/String") := by
  intro ci hc
  simp only [List.mem_cons, List.not_mem_nil, or_false] at hc
  subst hc
  exact ⟨RX11, TX11, 8, "java/lang/Throwable", tyX11, so_le rfl, rfl, in_X11, so_le rfl, rfl, rfl, (Or.inl q455), (fun _ _ _ _ g => g), tyX11_ok, nmX11, rfl, (by decide +kernel), fun h => by cases h⟩
theorem fp_X11_7_3 : jfp_ RX11 7 [3] 6 false true .int := by
  intro ci hc
  simp only [List.mem_cons, List.not_mem_nil, or_false] at hc
  subst hc
  exact ⟨RX11, TX11, 8, "TunedHouses$Wrong", tyX11, so_le rfl, rfl, in_X11, so_le rfl, rfl, rfl, (Or.inl q1081), (fun _ _ _ _ g => g), tyX11_ok, nmX11, rfl, (by decide +kernel), fun _ => rfl⟩
theorem fp_X11_13_3 : jfp_ RX11 13 [3] 7 false true .int := by
  intro ci hc
  simp only [List.mem_cons, List.not_mem_nil, or_false] at hc
  subst hc
  exact ⟨RX11, TX11, 8, "TunedHouses$Wrong", tyX11, so_le rfl, rfl, in_X11, so_le rfl, rfl, rfl, (Or.inl q1083), (fun _ _ _ _ g => g), tyX11_ok, nmX11, rfl, (by decide +kernel), fun _ => rfl⟩
theorem fp_X9_52_2_5_13_19 : jfp_ RX9 52 [2, 5, 13, 19] 3 false false .int := by
  intro ci hc
  simp only [List.mem_cons, List.not_mem_nil, or_false] at hc
  rcases hc with rfl | rfl | rfl | rfl
  · exact ⟨RX10, TX10, 6, "TunedHouses$Reader", tyX10, so_le rfl, rfl, in_X10, so_le rfl, rfl, rfl, (Or.inl q919), (fun _ _ _ _ g => g), tyX10_ok, nmX10, rfl, (by decide +kernel), fun h => by cases h⟩
  · exact ⟨RX13, TX13, 5, "TunedHouses$Reader", tyX13, so_le rfl, rfl, in_X13, so_le rfl, rfl, rfl, (Or.inl q919), (fun _ _ _ _ g => g), tyX13_ok, nmX13, rfl, (by decide +kernel), fun h => by cases h⟩
  · exact ⟨RX21, TX21, 6, "TunedHouses$Reader", tyX21, so_le rfl, rfl, in_X21, so_le rfl, rfl, rfl, (Or.inl q919), (fun _ _ _ _ g => g), tyX21_ok, nmX21, rfl, (by decide +kernel), fun h => by cases h⟩
  · exact ⟨RX29, TX29, 7, "TunedHouses$Reader", tyX29, so_le rfl, rfl, in_X29, so_le rfl, rfl, rfl, (Or.inl q919), (fun _ _ _ _ g => g), tyX29_ok, nmX29, rfl, (by decide +kernel), fun h => by cases h⟩
theorem fl_X9_52_2_5_13_19 : jf_ RX9 52 [2, 5, 13, 19] 3 false := by
  intro ci hc
  simp only [List.mem_cons, List.not_mem_nil, or_false] at hc
  rcases hc with rfl | rfl | rfl | rfl
  · exact ⟨RX10, TX10, 6, "TunedHouses$Reader", so_le rfl, rfl, in_X10, so_le rfl, rfl, rfl, (Or.inl q919), (fun _ _ _ _ g => g)⟩
  · exact ⟨RX13, TX13, 5, "TunedHouses$Reader", so_le rfl, rfl, in_X13, so_le rfl, rfl, rfl, (Or.inl q919), (fun _ _ _ _ g => g)⟩
  · exact ⟨RX21, TX21, 6, "TunedHouses$Reader", so_le rfl, rfl, in_X21, so_le rfl, rfl, rfl, (Or.inl q919), (fun _ _ _ _ g => g)⟩
  · exact ⟨RX29, TX29, 7, "TunedHouses$Reader", so_le rfl, rfl, in_X29, so_le rfl, rfl, rfl, (Or.inl q919), (fun _ _ _ _ g => g)⟩
theorem fp_X12_7_4 : jfp_ RX12 7 [4] 0 false true .int := by
  intro ci hc
  simp only [List.mem_cons, List.not_mem_nil, or_false] at hc
  subst hc
  exact ⟨RX12, TX12, 2, "TunedHouses$Piano", tyX12, so_le rfl, rfl, in_X12, so_le rfl, rfl, rfl, (Or.inl q1126), (fun _ _ _ _ g => g), tyX12_ok, nmX12, rfl, (by decide +kernel), fun _ => rfl⟩
theorem fp_X12_13_4 : jfp_ RX12 13 [4] 1 false true .int := by
  intro ci hc
  simp only [List.mem_cons, List.not_mem_nil, or_false] at hc
  subst hc
  exact ⟨RX12, TX12, 2, "TunedHouses$Piano", tyX12, so_le rfl, rfl, in_X12, so_le rfl, rfl, rfl, (Or.inl q1129), (fun _ _ _ _ g => g), tyX12_ok, nmX12, rfl, (by decide +kernel), fun _ => rfl⟩
theorem cao_4_14_15_16_17_18 : jca_ [4, 14, 15, 16, 17, 18] := by
  intro ci hc
  simp only [List.mem_cons, List.not_mem_nil, or_false] at hc
  rcases hc with rfl | rfl | rfl | rfl | rfl | rfl
  · exact ⟨(RX12, TX12, 2), so_le rfl, rfl, q2577⟩
  · exact ⟨(RX24, TX24, 2), so_le rfl, rfl, q2587⟩
  · exact ⟨(RX25, TX25, 1), so_le rfl, rfl, q2588⟩
  · exact ⟨(RX26, TX26, 2), so_le rfl, rfl, q2589⟩
  · exact ⟨(RX27, jw_T0, 0), so_le rfl, rfl, q2590⟩
  · exact ⟨(RX28, TX28, 2), so_le rfl, rfl, q2591⟩
theorem fl_J2_9_24 : jf_ RJ2 9 [24] 1 true := by
  intro ci hc
  simp only [List.mem_cons, List.not_mem_nil, or_false] at hc
  subst hc
  exact ⟨RJ2, TJ2, 3, "java/util/ArrayList", so_le rfl, rfl, in_J2, so_le rfl, rfl, rfl, (Or.inl q494), (fun _ _ _ _ g => g)⟩
theorem fp_J2_48_24 : jfp_ RJ2 48 [24] 2 false false .int := by
  intro ci hc
  simp only [List.mem_cons, List.not_mem_nil, or_false] at hc
  subst hc
  exact ⟨RJ2, TJ2, 3, "java/util/ArrayList", tyJ2, so_le rfl, rfl, in_J2, so_le rfl, rfl, rfl, (Or.inl q495), (fun _ _ _ _ g => g), tyJ2_ok, nmJ2, rfl, (by decide +kernel), fun h => by cases h⟩
theorem fl_J2_63_24 : jf_ RJ2 63 [24] 0 false := by
  intro ci hc
  simp only [List.mem_cons, List.not_mem_nil, or_false] at hc
  subst hc
  exact ⟨RJ2, TJ2, 3, "java/util/ArrayList", so_le rfl, rfl, in_J2, so_le rfl, rfl, rfl, (Or.inl q497), (fun _ _ hts x g => u_same (hts _ q498) x g)⟩
theorem fp_J2_63_24 : jfp_ RJ2 63 [24] 0 false false .int := by
  intro ci hc
  simp only [List.mem_cons, List.not_mem_nil, or_false] at hc
  subst hc
  exact ⟨RJ2, TJ2, 3, "java/util/ArrayList", tyJ2, so_le rfl, rfl, in_J2, so_le rfl, rfl, rfl, (Or.inl q497), (fun _ _ hts x g => u_same (hts _ q498) x g), tyJ2_ok, nmJ2, rfl, (by decide +kernel), fun h => by cases h⟩
theorem fl_X2_21_1 : jf_ RX2 21 [1] 3 true := by
  intro ci hc
  simp only [List.mem_cons, List.not_mem_nil, or_false] at hc
  subst hc
  exact ⟨RX2, TX2, 10, "TunedHouses$Told", so_le rfl, rfl, in_X2, so_le rfl, rfl, rfl, (Or.inl q517), (fun _ _ _ _ g => g)⟩
theorem fl_X2_40_1 : jf_ RX2 40 [1] 7 false := by
  intro ci hc
  simp only [List.mem_cons, List.not_mem_nil, or_false] at hc
  subst hc
  exact ⟨RX2, TX2, 10, "TunedHouses$Told", so_le rfl, rfl, in_X2, so_le rfl, rfl, rfl, (Or.inl q529), (fun _ _ _ _ g => g)⟩
theorem fl_X2_24_1 : jf_ RX2 24 [1] 4 true := by
  intro ci hc
  simp only [List.mem_cons, List.not_mem_nil, or_false] at hc
  subst hc
  exact ⟨RX2, TX2, 10, "TunedHouses$Told", so_le rfl, rfl, in_X2, so_le rfl, rfl, rfl, (Or.inl q519), (fun _ _ _ _ g => g)⟩
theorem fl_X2_18_1 : jf_ RX2 18 [1] 2 true := by
  intro ci hc
  simp only [List.mem_cons, List.not_mem_nil, or_false] at hc
  subst hc
  exact ⟨RX2, TX2, 10, "TunedHouses$Told", so_le rfl, rfl, in_X2, so_le rfl, rfl, rfl, (Or.inl q513), (fun _ _ _ _ g => g)⟩
theorem fp_X2_40_1 : jfp_ RX2 40 [1] 7 false false .int := by
  intro ci hc
  simp only [List.mem_cons, List.not_mem_nil, or_false] at hc
  subst hc
  exact ⟨RX2, TX2, 10, "TunedHouses$Told", tyX2, so_le rfl, rfl, in_X2, so_le rfl, rfl, rfl, (Or.inl q529), (fun _ _ _ _ g => g), tyX2_ok, nmX2, rfl, (by decide +kernel), fun h => by cases h⟩
theorem fl_X10_28_2 : jf_ RX10 28 [2] 2 false := by
  intro ci hc
  simp only [List.mem_cons, List.not_mem_nil, or_false] at hc
  subst hc
  exact ⟨RX10, TX10, 6, "TunedHouses$TerraceReader", so_le rfl, rfl, in_X10, so_le rfl, rfl, rfl, (Or.inl q913), (fun _ _ hts x g => u_same (hts _ q914) x g)⟩
theorem fp_X10_28_2 : jfp_ RX10 28 [2] 2 false false .int := by
  intro ci hc
  simp only [List.mem_cons, List.not_mem_nil, or_false] at hc
  subst hc
  exact ⟨RX10, TX10, 6, "TunedHouses$TerraceReader", tyX10, so_le rfl, rfl, in_X10, so_le rfl, rfl, rfl, (Or.inl q913), (fun _ _ hts x g => u_same (hts _ q914) x g), tyX10_ok, nmX10, rfl, (by decide +kernel), fun h => by cases h⟩
theorem fl_X10_102_1 : jf_ RX10 102 [1] 0 true := by
  intro ci hc
  simp only [List.mem_cons, List.not_mem_nil, or_false] at hc
  subst hc
  exact ⟨RX2, TX2, 10, "TunedHouses$Told", so_le rfl, rfl, in_X2, so_le rfl, rfl, rfl, (Or.inr ⟨_, q508⟩), (fun _ _ _ _ g => g)⟩
theorem fp_X10_65_1 : jfp_ RX10 65 [1] 6 false false .int := by
  intro ci hc
  simp only [List.mem_cons, List.not_mem_nil, or_false] at hc
  subst hc
  exact ⟨RX2, TX2, 10, "TunedHouses$Told", tyX2, so_le rfl, rfl, in_X2, so_le rfl, rfl, rfl, (Or.inr ⟨rfl, _, q526⟩), (fun _ _ _ _ g => g), tyX2_ok, nmX2, rfl, (by decide +kernel), fun h => by cases h⟩
theorem fl_X10_112_2 : jf_ RX10 112 [2] 3 false := by
  intro ci hc
  simp only [List.mem_cons, List.not_mem_nil, or_false] at hc
  subst hc
  exact ⟨RX10, TX10, 6, "TunedHouses$TerraceReader", so_le rfl, rfl, in_X10, so_le rfl, rfl, rfl, (Or.inl q917), (fun _ _ hts x g => u_same (hts _ q918) x g)⟩
theorem fl_X10_109_1 : jf_ RX10 109 [1] 2 true := by
  intro ci hc
  simp only [List.mem_cons, List.not_mem_nil, or_false] at hc
  subst hc
  exact ⟨RX2, TX2, 10, "TunedHouses$Told", so_le rfl, rfl, in_X2, so_le rfl, rfl, rfl, (Or.inr ⟨_, q515⟩), (fun _ _ _ _ g => g)⟩
theorem fl_X10_20_1 : jf_ RX10 20 [1] 1 true := by
  intro ci hc
  simp only [List.mem_cons, List.not_mem_nil, or_false] at hc
  subst hc
  exact ⟨RX2, TX2, 10, "TunedHouses$Told", so_le rfl, rfl, in_X2, so_le rfl, rfl, rfl, (Or.inr ⟨_, q511⟩), (fun _ _ _ _ g => g)⟩
theorem fp_X10_124_1 : jfp_ RX10 124 [1] 8 false false .int := by
  intro ci hc
  simp only [List.mem_cons, List.not_mem_nil, or_false] at hc
  subst hc
  exact ⟨RX2, TX2, 10, "TunedHouses$Told", tyX2, so_le rfl, rfl, in_X2, so_le rfl, rfl, rfl, (Or.inr ⟨rfl, _, q534⟩), (fun _ _ _ _ g => g), tyX2_ok, nmX2, rfl, (by decide +kernel), fun h => by cases h⟩
theorem fl_X10_32_2 : jf_ RX10 32 [2] 1 false := by
  intro ci hc
  simp only [List.mem_cons, List.not_mem_nil, or_false] at hc
  subst hc
  exact ⟨RX10, TX10, 6, "TunedHouses$TerraceReader", so_le rfl, rfl, in_X10, so_le rfl, rfl, rfl, (Or.inl q904), (fun _ _ hts x g => u_same (hts _ q905) x g)⟩
theorem fp_X10_47_1 : jfp_ RX10 47 [1] 9 false false .int := by
  intro ci hc
  simp only [List.mem_cons, List.not_mem_nil, or_false] at hc
  subst hc
  exact ⟨RX2, TX2, 10, "TunedHouses$Told", tyX2, so_le rfl, rfl, in_X2, so_le rfl, rfl, rfl, (Or.inr ⟨rfl, _, q535⟩), (fun _ _ _ _ g => g), tyX2_ok, nmX2, rfl, (by decide +kernel), fun h => by cases h⟩
theorem fl_X1_164_3 : jf_ RX1 164 [3] 7 false := by
  intro ci hc
  simp only [List.mem_cons, List.not_mem_nil, or_false] at hc
  subst hc
  exact ⟨RX11, TX11, 8, "TunedHouses$Wrong", so_le rfl, rfl, in_X11, so_le rfl, rfl, rfl, (Or.inr ⟨_, q1084⟩), (fun _ _ _ _ g => g)⟩
theorem fp_X1_69_0 : jfp_ RX1 69 [0] 16 false false .int := by
  intro ci hc
  simp only [List.mem_cons, List.not_mem_nil, or_false] at hc
  subst hc
  exact ⟨RX1, TX1, 26, "TunedHouses", tyX1, so_le rfl, rfl, in_X1, so_le rfl, rfl, rfl, (Or.inl q666), (fun _ _ _ _ g => g), tyX1_ok, nmX1, rfl, (by decide +kernel), fun h => by cases h⟩
theorem fl_X1_169_3 : jf_ RX1 169 [3] 6 false := by
  intro ci hc
  simp only [List.mem_cons, List.not_mem_nil, or_false] at hc
  subst hc
  exact ⟨RX11, TX11, 8, "TunedHouses$Wrong", so_le rfl, rfl, in_X11, so_le rfl, rfl, rfl, (Or.inr ⟨_, q1082⟩), (fun _ _ _ _ g => g)⟩
theorem fp_X6_7_21 : jfp_ RX6 7 [21] 0 false true .int := by
  intro ci hc
  simp only [List.mem_cons, List.not_mem_nil, or_false] at hc
  subst hc
  exact ⟨RX6, TX6, 1, "TunedHouses$Fact", tyX6, so_le rfl, rfl, in_X6, so_le rfl, rfl, rfl, (Or.inl q571), (fun _ _ _ _ g => g), tyX6_ok, nmX6, rfl, (by decide +kernel), fun _ => rfl⟩
theorem fp_X4_7_7_8_9_10_11_12_20 : jfp_ RX4 7 [7, 8, 9, 10, 11, 12, 20] 0 true true (.object "TunedHouses$Term") := by
  intro ci hc
  simp only [List.mem_cons, List.not_mem_nil, or_false] at hc
  rcases hc with rfl | rfl | rfl | rfl | rfl | rfl | rfl
  · exact ⟨RX15, TX15, 2, "TunedHouses$Two", tyX15, so_le rfl, rfl, in_X15, so_le rfl, rfl, rfl, (Or.inl q582), (fun _ _ _ _ g => g), tyX15_ok, nmX15, rfl, (by decide +kernel), fun _ => rfl⟩
  · exact ⟨RX16, TX16, 2, "TunedHouses$Two", tyX16, so_le rfl, rfl, in_X16, so_le rfl, rfl, rfl, (Or.inl q582), (fun _ _ _ _ g => g), tyX16_ok, nmX16, rfl, (by decide +kernel), fun _ => rfl⟩
  · exact ⟨RX17, TX17, 2, "TunedHouses$Two", tyX17, so_le rfl, rfl, in_X17, so_le rfl, rfl, rfl, (Or.inl q582), (fun _ _ _ _ g => g), tyX17_ok, nmX17, rfl, (by decide +kernel), fun _ => rfl⟩
  · exact ⟨RX18, TX18, 2, "TunedHouses$Two", tyX18, so_le rfl, rfl, in_X18, so_le rfl, rfl, rfl, (Or.inl q582), (fun _ _ _ _ g => g), tyX18_ok, nmX18, rfl, (by decide +kernel), fun _ => rfl⟩
  · exact ⟨RX19, TX19, 2, "TunedHouses$Two", tyX19, so_le rfl, rfl, in_X19, so_le rfl, rfl, rfl, (Or.inl q582), (fun _ _ _ _ g => g), tyX19_ok, nmX19, rfl, (by decide +kernel), fun _ => rfl⟩
  · exact ⟨RX20, TX20, 2, "TunedHouses$Two", tyX20, so_le rfl, rfl, in_X20, so_le rfl, rfl, rfl, (Or.inl q582), (fun _ _ _ _ g => g), tyX20_ok, nmX20, rfl, (by decide +kernel), fun _ => rfl⟩
  · exact ⟨RX5, TX5, 2, "TunedHouses$Two", tyX5, so_le rfl, rfl, in_X5, so_le rfl, rfl, rfl, (Or.inl q582), (fun _ _ _ _ g => g), tyX5_ok, nmX5, rfl, (by decide +kernel), fun _ => rfl⟩
theorem fp_X4_13_7_8_9_10_11_12_20 : jfp_ RX4 13 [7, 8, 9, 10, 11, 12, 20] 1 true true (.object "TunedHouses$Term") := by
  intro ci hc
  simp only [List.mem_cons, List.not_mem_nil, or_false] at hc
  rcases hc with rfl | rfl | rfl | rfl | rfl | rfl | rfl
  · exact ⟨RX15, TX15, 2, "TunedHouses$Two", tyX15, so_le rfl, rfl, in_X15, so_le rfl, rfl, rfl, (Or.inl q583), (fun _ _ _ _ g => g), tyX15_ok, nmX15, rfl, (by decide +kernel), fun _ => rfl⟩
  · exact ⟨RX16, TX16, 2, "TunedHouses$Two", tyX16, so_le rfl, rfl, in_X16, so_le rfl, rfl, rfl, (Or.inl q583), (fun _ _ _ _ g => g), tyX16_ok, nmX16, rfl, (by decide +kernel), fun _ => rfl⟩
  · exact ⟨RX17, TX17, 2, "TunedHouses$Two", tyX17, so_le rfl, rfl, in_X17, so_le rfl, rfl, rfl, (Or.inl q583), (fun _ _ _ _ g => g), tyX17_ok, nmX17, rfl, (by decide +kernel), fun _ => rfl⟩
  · exact ⟨RX18, TX18, 2, "TunedHouses$Two", tyX18, so_le rfl, rfl, in_X18, so_le rfl, rfl, rfl, (Or.inl q583), (fun _ _ _ _ g => g), tyX18_ok, nmX18, rfl, (by decide +kernel), fun _ => rfl⟩
  · exact ⟨RX19, TX19, 2, "TunedHouses$Two", tyX19, so_le rfl, rfl, in_X19, so_le rfl, rfl, rfl, (Or.inl q583), (fun _ _ _ _ g => g), tyX19_ok, nmX19, rfl, (by decide +kernel), fun _ => rfl⟩
  · exact ⟨RX20, TX20, 2, "TunedHouses$Two", tyX20, so_le rfl, rfl, in_X20, so_le rfl, rfl, rfl, (Or.inl q583), (fun _ _ _ _ g => g), tyX20_ok, nmX20, rfl, (by decide +kernel), fun _ => rfl⟩
  · exact ⟨RX5, TX5, 2, "TunedHouses$Two", tyX5, so_le rfl, rfl, in_X5, so_le rfl, rfl, rfl, (Or.inl q583), (fun _ _ _ _ g => g), tyX5_ok, nmX5, rfl, (by decide +kernel), fun _ => rfl⟩
theorem fl_X7_15_22 : jf_ RX7 15 [22] 0 true := by
  intro ci hc
  simp only [List.mem_cons, List.not_mem_nil, or_false] at hc
  subst hc
  exact ⟨RX7, TX7, 11, "TunedHouses$Terrace", so_le rfl, rfl, in_X7, so_le rfl, rfl, rfl, (Or.inl q595), (fun _ _ _ _ g => g)⟩
theorem fl_X7_19_22 : jf_ RX7 19 [22] 1 true := by
  intro ci hc
  simp only [List.mem_cons, List.not_mem_nil, or_false] at hc
  subst hc
  exact ⟨RX7, TX7, 11, "TunedHouses$Terrace", so_le rfl, rfl, in_X7, so_le rfl, rfl, rfl, (Or.inl q597), (fun _ _ _ _ g => g)⟩
theorem fl_X7_22_22 : jf_ RX7 22 [22] 2 true := by
  intro ci hc
  simp only [List.mem_cons, List.not_mem_nil, or_false] at hc
  subst hc
  exact ⟨RX7, TX7, 11, "TunedHouses$Terrace", so_le rfl, rfl, in_X7, so_le rfl, rfl, rfl, (Or.inl q599), (fun _ _ _ _ g => g)⟩
theorem fl_X7_25_22 : jf_ RX7 25 [22] 3 true := by
  intro ci hc
  simp only [List.mem_cons, List.not_mem_nil, or_false] at hc
  subst hc
  exact ⟨RX7, TX7, 11, "TunedHouses$Terrace", so_le rfl, rfl, in_X7, so_le rfl, rfl, rfl, (Or.inl q601), (fun _ _ _ _ g => g)⟩
theorem fl_X7_3_22 : jf_ RX7 3 [22] 10 true := by
  intro ci hc
  simp only [List.mem_cons, List.not_mem_nil, or_false] at hc
  subst hc
  exact ⟨RX7, TX7, 11, "TunedHouses$Terrace", so_le rfl, rfl, in_X7, so_le rfl, rfl, rfl, (Or.inl q615), (fun _ _ _ _ g => g)⟩
theorem fl_X7_31_0 : jf_ RX7 31 [0] 0 true := by
  intro ci hc
  simp only [List.mem_cons, List.not_mem_nil, or_false] at hc
  subst hc
  exact ⟨RX1, TX1, 26, "TunedHouses", so_le rfl, rfl, in_X1, so_le rfl, rfl, rfl, (Or.inr ⟨_, q650⟩), (fun _ _ _ _ g => g)⟩
theorem fl_X7_35_1 : jf_ RX7 35 [1] 6 false := by
  intro ci hc
  simp only [List.mem_cons, List.not_mem_nil, or_false] at hc
  subst hc
  exact ⟨RX2, TX2, 10, "TunedHouses$Told", so_le rfl, rfl, in_X2, so_le rfl, rfl, rfl, (Or.inr ⟨_, q525⟩), (fun _ _ _ _ g => g)⟩
theorem fl_X7_41_1 : jf_ RX7 41 [1] 0 true := by
  intro ci hc
  simp only [List.mem_cons, List.not_mem_nil, or_false] at hc
  subst hc
  exact ⟨RX2, TX2, 10, "TunedHouses$Told", so_le rfl, rfl, in_X2, so_le rfl, rfl, rfl, (Or.inr ⟨_, q507⟩), (fun _ _ _ _ g => g)⟩
theorem fl_X7_44_1 : jf_ RX7 44 [1] 8 false := by
  intro ci hc
  simp only [List.mem_cons, List.not_mem_nil, or_false] at hc
  subst hc
  exact ⟨RX2, TX2, 10, "TunedHouses$Told", so_le rfl, rfl, in_X2, so_le rfl, rfl, rfl, (Or.inr ⟨_, q533⟩), (fun _ _ _ _ g => g)⟩
theorem fp_X7_46_22 : jfp_ RX7 46 [22] 5 false false .int := by
  intro ci hc
  simp only [List.mem_cons, List.not_mem_nil, or_false] at hc
  subst hc
  exact ⟨RX7, TX7, 11, "TunedHouses$Terrace", tyX7, so_le rfl, rfl, in_X7, so_le rfl, rfl, rfl, (Or.inl q604), (fun _ _ _ _ g => g), tyX7_ok, nmX7, rfl, (by decide +kernel), fun h => by cases h⟩
theorem fp_X7_49_22 : jfp_ RX7 49 [22] 6 false false .int := by
  intro ci hc
  simp only [List.mem_cons, List.not_mem_nil, or_false] at hc
  subst hc
  exact ⟨RX7, TX7, 11, "TunedHouses$Terrace", tyX7, so_le rfl, rfl, in_X7, so_le rfl, rfl, rfl, (Or.inl q606), (fun _ _ _ _ g => g), tyX7_ok, nmX7, rfl, (by decide +kernel), fun h => by cases h⟩
theorem fp_X1_30_0 : jfp_ RX1 30 [0] 1 true false (.object "TunedHouses$Term") := by
  intro ci hc
  simp only [List.mem_cons, List.not_mem_nil, or_false] at hc
  subst hc
  exact ⟨RX1, TX1, 26, "TunedHouses", tyX1, so_le rfl, rfl, in_X1, so_le rfl, rfl, rfl, (Or.inl q651), (fun _ _ _ _ g => g), tyX1_ok, nmX1, rfl, (by decide +kernel), fun h => by cases h⟩
theorem fl_X1_38_0 : jf_ RX1 38 [0] 3 true := by
  intro ci hc
  simp only [List.mem_cons, List.not_mem_nil, or_false] at hc
  subst hc
  exact ⟨RX1, TX1, 26, "TunedHouses", so_le rfl, rfl, in_X1, so_le rfl, rfl, rfl, (Or.inl q653), (fun _ _ _ _ g => g)⟩
theorem fl_X1_49_0 : jf_ RX1 49 [0] 5 true := by
  intro ci hc
  simp only [List.mem_cons, List.not_mem_nil, or_false] at hc
  subst hc
  exact ⟨RX1, TX1, 26, "TunedHouses", so_le rfl, rfl, in_X1, so_le rfl, rfl, rfl, (Or.inl q655), (fun _ _ _ _ g => g)⟩
theorem fp_X1_100_0 : jfp_ RX1 100 [0] 11 false false .int := by
  intro ci hc
  simp only [List.mem_cons, List.not_mem_nil, or_false] at hc
  subst hc
  exact ⟨RX1, TX1, 26, "TunedHouses", tyX1, so_le rfl, rfl, in_X1, so_le rfl, rfl, rfl, (Or.inl q661), (fun _ _ _ _ g => g), tyX1_ok, nmX1, rfl, (by decide +kernel), fun h => by cases h⟩
theorem fp_X1_103_0 : jfp_ RX1 103 [0] 12 false false .int := by
  intro ci hc
  simp only [List.mem_cons, List.not_mem_nil, or_false] at hc
  subst hc
  exact ⟨RX1, TX1, 26, "TunedHouses", tyX1, so_le rfl, rfl, in_X1, so_le rfl, rfl, rfl, (Or.inl q662), (fun _ _ _ _ g => g), tyX1_ok, nmX1, rfl, (by decide +kernel), fun h => by cases h⟩
theorem fp_X1_106_0 : jfp_ RX1 106 [0] 13 false false .int := by
  intro ci hc
  simp only [List.mem_cons, List.not_mem_nil, or_false] at hc
  subst hc
  exact ⟨RX1, TX1, 26, "TunedHouses", tyX1, so_le rfl, rfl, in_X1, so_le rfl, rfl, rfl, (Or.inl q663), (fun _ _ _ _ g => g), tyX1_ok, nmX1, rfl, (by decide +kernel), fun h => by cases h⟩
theorem fp_X1_109_0 : jfp_ RX1 109 [0] 17 false false .int := by
  intro ci hc
  simp only [List.mem_cons, List.not_mem_nil, or_false] at hc
  subst hc
  exact ⟨RX1, TX1, 26, "TunedHouses", tyX1, so_le rfl, rfl, in_X1, so_le rfl, rfl, rfl, (Or.inl q667), (fun _ _ _ _ g => g), tyX1_ok, nmX1, rfl, (by decide +kernel), fun h => by cases h⟩
theorem fl_X1_22_0 : jf_ RX1 22 [0] 0 true := by
  intro ci hc
  simp only [List.mem_cons, List.not_mem_nil, or_false] at hc
  subst hc
  exact ⟨RX1, TX1, 26, "TunedHouses", so_le rfl, rfl, in_X1, so_le rfl, rfl, rfl, (Or.inl q649), (fun _ _ _ _ g => g)⟩
theorem fl_X1_112_1 : jf_ RX1 112 [1] 5 true := by
  intro ci hc
  simp only [List.mem_cons, List.not_mem_nil, or_false] at hc
  subst hc
  exact ⟨RX2, TX2, 10, "TunedHouses$Told", so_le rfl, rfl, in_X2, so_le rfl, rfl, rfl, (Or.inr ⟨_, q524⟩), (fun _ _ _ _ g => g)⟩
theorem fl_X1_73_0 : jf_ RX1 73 [0] 18 true := by
  intro ci hc
  simp only [List.mem_cons, List.not_mem_nil, or_false] at hc
  subst hc
  exact ⟨RX1, TX1, 26, "TunedHouses", so_le rfl, rfl, in_X1, so_le rfl, rfl, rfl, (Or.inl q668), (fun _ _ _ _ g => g)⟩
theorem fp_X1_158_0 : jfp_ RX1 158 [0] 15 false false .int := by
  intro ci hc
  simp only [List.mem_cons, List.not_mem_nil, or_false] at hc
  subst hc
  exact ⟨RX1, TX1, 26, "TunedHouses", tyX1, so_le rfl, rfl, in_X1, so_le rfl, rfl, rfl, (Or.inl q665), (fun _ _ _ _ g => g), tyX1_ok, nmX1, rfl, (by decide +kernel), fun h => by cases h⟩
theorem fp_X1_22_0 : jfp_ RX1 22 [0] 0 true false (.object "TunedHouses$Told") := by
  intro ci hc
  simp only [List.mem_cons, List.not_mem_nil, or_false] at hc
  subst hc
  exact ⟨RX1, TX1, 26, "TunedHouses", tyX1, so_le rfl, rfl, in_X1, so_le rfl, rfl, rfl, (Or.inl q649), (fun _ _ _ _ g => g), tyX1_ok, nmX1, rfl, (by decide +kernel), fun h => by cases h⟩
theorem fl_X1_158_0 : jf_ RX1 158 [0] 15 false := by
  intro ci hc
  simp only [List.mem_cons, List.not_mem_nil, or_false] at hc
  subst hc
  exact ⟨RX1, TX1, 26, "TunedHouses", so_le rfl, rfl, in_X1, so_le rfl, rfl, rfl, (Or.inl q665), (fun _ _ _ _ g => g)⟩
theorem fl_X9_49_2_5_13_19 : jf_ RX9 49 [2, 5, 13, 19] 4 false := by
  intro ci hc
  simp only [List.mem_cons, List.not_mem_nil, or_false] at hc
  rcases hc with rfl | rfl | rfl | rfl
  · exact ⟨RX10, TX10, 6, "TunedHouses$Reader", so_le rfl, rfl, in_X10, so_le rfl, rfl, rfl, (Or.inl q922), (fun _ _ _ _ g => g)⟩
  · exact ⟨RX13, TX13, 5, "TunedHouses$Reader", so_le rfl, rfl, in_X13, so_le rfl, rfl, rfl, (Or.inl q922), (fun _ _ _ _ g => g)⟩
  · exact ⟨RX21, TX21, 6, "TunedHouses$Reader", so_le rfl, rfl, in_X21, so_le rfl, rfl, rfl, (Or.inl q922), (fun _ _ _ _ g => g)⟩
  · exact ⟨RX29, TX29, 7, "TunedHouses$Reader", so_le rfl, rfl, in_X29, so_le rfl, rfl, rfl, (Or.inl q922), (fun _ _ _ _ g => g)⟩
theorem fp_X9_49_2_5_13_19 : jfp_ RX9 49 [2, 5, 13, 19] 4 false false .int := by
  intro ci hc
  simp only [List.mem_cons, List.not_mem_nil, or_false] at hc
  rcases hc with rfl | rfl | rfl | rfl
  · exact ⟨RX10, TX10, 6, "TunedHouses$Reader", tyX10, so_le rfl, rfl, in_X10, so_le rfl, rfl, rfl, (Or.inl q922), (fun _ _ _ _ g => g), tyX10_ok, nmX10, rfl, (by decide +kernel), fun h => by cases h⟩
  · exact ⟨RX13, TX13, 5, "TunedHouses$Reader", tyX13, so_le rfl, rfl, in_X13, so_le rfl, rfl, rfl, (Or.inl q922), (fun _ _ _ _ g => g), tyX13_ok, nmX13, rfl, (by decide +kernel), fun h => by cases h⟩
  · exact ⟨RX21, TX21, 6, "TunedHouses$Reader", tyX21, so_le rfl, rfl, in_X21, so_le rfl, rfl, rfl, (Or.inl q922), (fun _ _ _ _ g => g), tyX21_ok, nmX21, rfl, (by decide +kernel), fun h => by cases h⟩
  · exact ⟨RX29, TX29, 7, "TunedHouses$Reader", tyX29, so_le rfl, rfl, in_X29, so_le rfl, rfl, rfl, (Or.inl q922), (fun _ _ _ _ g => g), tyX29_ok, nmX29, rfl, (by decide +kernel), fun h => by cases h⟩
theorem fp_X14_7_6 : jfp_ RX14 7 [6] 0 false true .int := by
  intro ci hc
  simp only [List.mem_cons, List.not_mem_nil, or_false] at hc
  subst hc
  exact ⟨RX14, TX14, 1, "TunedHouses$Plain", tyX14, so_le rfl, rfl, in_X14, so_le rfl, rfl, rfl, (Or.inl q1265), (fun _ _ _ _ g => g), tyX14_ok, nmX14, rfl, (by decide +kernel), fun _ => rfl⟩
theorem fl_X13_60_5 : jf_ RX13 60 [5] 4 false := by
  intro ci hc
  simp only [List.mem_cons, List.not_mem_nil, or_false] at hc
  subst hc
  exact ⟨RX13, TX13, 5, "TunedHouses$LawReader", so_le rfl, rfl, in_X13, so_le rfl, rfl, rfl, (Or.inl q920), (fun _ _ hts x g => u_same (hts _ q921) x g)⟩
theorem fp_X13_60_5 : jfp_ RX13 60 [5] 4 false false .int := by
  intro ci hc
  simp only [List.mem_cons, List.not_mem_nil, or_false] at hc
  subst hc
  exact ⟨RX13, TX13, 5, "TunedHouses$LawReader", tyX13, so_le rfl, rfl, in_X13, so_le rfl, rfl, rfl, (Or.inl q920), (fun _ _ hts x g => u_same (hts _ q921) x g), tyX13_ok, nmX13, rfl, (by decide +kernel), fun h => by cases h⟩
theorem fl_X13_19_5 : jf_ RX13 19 [5] 2 false := by
  intro ci hc
  simp only [List.mem_cons, List.not_mem_nil, or_false] at hc
  subst hc
  exact ⟨RX13, TX13, 5, "TunedHouses$LawReader", so_le rfl, rfl, in_X13, so_le rfl, rfl, rfl, (Or.inl q907), (fun _ _ hts x g => u_same (hts _ q908) x g)⟩
theorem fp_X13_19_5 : jfp_ RX13 19 [5] 2 false false .int := by
  intro ci hc
  simp only [List.mem_cons, List.not_mem_nil, or_false] at hc
  subst hc
  exact ⟨RX13, TX13, 5, "TunedHouses$LawReader", tyX13, so_le rfl, rfl, in_X13, so_le rfl, rfl, rfl, (Or.inl q907), (fun _ _ hts x g => u_same (hts _ q908) x g), tyX13_ok, nmX13, rfl, (by decide +kernel), fun h => by cases h⟩
theorem fl_X13_23_5 : jf_ RX13 23 [5] 1 false := by
  intro ci hc
  simp only [List.mem_cons, List.not_mem_nil, or_false] at hc
  subst hc
  exact ⟨RX13, TX13, 5, "TunedHouses$LawReader", so_le rfl, rfl, in_X13, so_le rfl, rfl, rfl, (Or.inl q898), (fun _ _ hts x g => u_same (hts _ q899) x g)⟩
theorem fp_X21_9_13 : jfp_ RX21 9 [13] 5 true true (.object "TunedHouses$Told") := by
  intro ci hc
  simp only [List.mem_cons, List.not_mem_nil, or_false] at hc
  subst hc
  exact ⟨RX21, TX21, 6, "TunedHouses$WorkReader", tyX21, so_le rfl, rfl, in_X21, so_le rfl, rfl, rfl, (Or.inl q1367), (fun _ _ _ _ g => g), tyX21_ok, nmX21, rfl, (by decide +kernel), fun _ => rfl⟩
theorem fp_X28_14_18 : jfp_ RX28 14 [18] 1 true true (.object "java/util/ArrayList") := by
  intro ci hc
  simp only [List.mem_cons, List.not_mem_nil, or_false] at hc
  subst hc
  exact ⟨RX28, TX28, 2, "TunedHouses$Again", tyX28, so_le rfl, rfl, in_X28, so_le rfl, rfl, rfl, (Or.inl q1477), (fun _ _ _ _ g => g), tyX28_ok, nmX28, rfl, (by decide +kernel), fun _ => rfl⟩
theorem fp_X28_20_18 : jfp_ RX28 20 [18] 0 false true .int := by
  intro ci hc
  simp only [List.mem_cons, List.not_mem_nil, or_false] at hc
  subst hc
  exact ⟨RX28, TX28, 2, "TunedHouses$Again", tyX28, so_le rfl, rfl, in_X28, so_le rfl, rfl, rfl, (Or.inl q1476), (fun _ _ _ _ g => g), tyX28_ok, nmX28, rfl, (by decide +kernel), fun _ => rfl⟩
theorem fl_X21_117_18 : jf_ RX21 117 [18] 1 true := by
  intro ci hc
  simp only [List.mem_cons, List.not_mem_nil, or_false] at hc
  subst hc
  exact ⟨RX28, TX28, 2, "TunedHouses$Again", so_le rfl, rfl, in_X28, so_le rfl, rfl, rfl, (Or.inr ⟨_, q1478⟩), (fun _ _ _ _ g => g)⟩
theorem fl_X21_24_13 : jf_ RX21 24 [13] 2 false := by
  intro ci hc
  simp only [List.mem_cons, List.not_mem_nil, or_false] at hc
  subst hc
  exact ⟨RX21, TX21, 6, "TunedHouses$WorkReader", so_le rfl, rfl, in_X21, so_le rfl, rfl, rfl, (Or.inl q909), (fun _ _ hts x g => u_same (hts _ q910) x g)⟩
theorem fp_X21_24_13 : jfp_ RX21 24 [13] 2 false false .int := by
  intro ci hc
  simp only [List.mem_cons, List.not_mem_nil, or_false] at hc
  subst hc
  exact ⟨RX21, TX21, 6, "TunedHouses$WorkReader", tyX21, so_le rfl, rfl, in_X21, so_le rfl, rfl, rfl, (Or.inl q909), (fun _ _ hts x g => u_same (hts _ q910) x g), tyX21_ok, nmX21, rfl, (by decide +kernel), fun h => by cases h⟩
theorem fl_X21_120_13 : jf_ RX21 120 [13] 4 false := by
  intro ci hc
  simp only [List.mem_cons, List.not_mem_nil, or_false] at hc
  subst hc
  exact ⟨RX21, TX21, 6, "TunedHouses$WorkReader", so_le rfl, rfl, in_X21, so_le rfl, rfl, rfl, (Or.inl q923), (fun _ _ hts x g => u_same (hts _ q924) x g)⟩
theorem fp_X21_120_13 : jfp_ RX21 120 [13] 4 false false .int := by
  intro ci hc
  simp only [List.mem_cons, List.not_mem_nil, or_false] at hc
  subst hc
  exact ⟨RX21, TX21, 6, "TunedHouses$WorkReader", tyX21, so_le rfl, rfl, in_X21, so_le rfl, rfl, rfl, (Or.inl q923), (fun _ _ hts x g => u_same (hts _ q924) x g), tyX21_ok, nmX21, rfl, (by decide +kernel), fun h => by cases h⟩
theorem fl_X21_9_13 : jf_ RX21 9 [13] 5 true := by
  intro ci hc
  simp only [List.mem_cons, List.not_mem_nil, or_false] at hc
  subst hc
  exact ⟨RX21, TX21, 6, "TunedHouses$WorkReader", so_le rfl, rfl, in_X21, so_le rfl, rfl, rfl, (Or.inl q1367), (fun _ _ _ _ g => g)⟩
theorem fl_X21_39_1 : jf_ RX21 39 [1] 5 true := by
  intro ci hc
  simp only [List.mem_cons, List.not_mem_nil, or_false] at hc
  subst hc
  exact ⟨RX2, TX2, 10, "TunedHouses$Told", so_le rfl, rfl, in_X2, so_le rfl, rfl, rfl, (Or.inr ⟨_, q522⟩), (fun _ _ _ _ g => g)⟩
theorem fp_X26_7_16 : jfp_ RX26 7 [16] 0 false true .int := by
  intro ci hc
  simp only [List.mem_cons, List.not_mem_nil, or_false] at hc
  subst hc
  exact ⟨RX26, TX26, 2, "TunedHouses$Lays", tyX26, so_le rfl, rfl, in_X26, so_le rfl, rfl, rfl, (Or.inl q1447), (fun _ _ _ _ g => g), tyX26_ok, nmX26, rfl, (by decide +kernel), fun _ => rfl⟩
theorem fp_X26_13_16 : jfp_ RX26 13 [16] 1 false true .int := by
  intro ci hc
  simp only [List.mem_cons, List.not_mem_nil, or_false] at hc
  subst hc
  exact ⟨RX26, TX26, 2, "TunedHouses$Lays", tyX26, so_le rfl, rfl, in_X26, so_le rfl, rfl, rfl, (Or.inl q1448), (fun _ _ _ _ g => g), tyX26_ok, nmX26, rfl, (by decide +kernel), fun _ => rfl⟩
theorem fp_X25_7_15 : jfp_ RX25 7 [15] 0 false true .int := by
  intro ci hc
  simp only [List.mem_cons, List.not_mem_nil, or_false] at hc
  subst hc
  exact ⟨RX25, TX25, 1, "TunedHouses$Takes", tyX25, so_le rfl, rfl, in_X25, so_le rfl, rfl, rfl, (Or.inl q1437), (fun _ _ _ _ g => g), tyX25_ok, nmX25, rfl, (by decide +kernel), fun _ => rfl⟩
theorem fp_X24_7_14 : jfp_ RX24 7 [14] 0 false true .int := by
  intro ci hc
  simp only [List.mem_cons, List.not_mem_nil, or_false] at hc
  subst hc
  exact ⟨RX24, TX24, 2, "TunedHouses$Puts", tyX24, so_le rfl, rfl, in_X24, so_le rfl, rfl, rfl, (Or.inl q1424), (fun _ _ _ _ g => g), tyX24_ok, nmX24, rfl, (by decide +kernel), fun _ => rfl⟩
theorem fp_X24_13_14 : jfp_ RX24 13 [14] 1 false true .int := by
  intro ci hc
  simp only [List.mem_cons, List.not_mem_nil, or_false] at hc
  subst hc
  exact ⟨RX24, TX24, 2, "TunedHouses$Puts", tyX24, so_le rfl, rfl, in_X24, so_le rfl, rfl, rfl, (Or.inl q1425), (fun _ _ _ _ g => g), tyX24_ok, nmX24, rfl, (by decide +kernel), fun _ => rfl⟩
theorem fl_X21_94_1 : jf_ RX21 94 [1] 6 false := by
  intro ci hc
  simp only [List.mem_cons, List.not_mem_nil, or_false] at hc
  subst hc
  exact ⟨RX2, TX2, 10, "TunedHouses$Told", so_le rfl, rfl, in_X2, so_le rfl, rfl, rfl, (Or.inr ⟨_, q527⟩), (fun _ _ _ _ g => g)⟩
theorem fl_X21_28_13 : jf_ RX21 28 [13] 1 false := by
  intro ci hc
  simp only [List.mem_cons, List.not_mem_nil, or_false] at hc
  subst hc
  exact ⟨RX21, TX21, 6, "TunedHouses$WorkReader", so_le rfl, rfl, in_X21, so_le rfl, rfl, rfl, (Or.inl q900), (fun _ _ hts x g => u_same (hts _ q901) x g)⟩
theorem fp_X7_3_22 : jfp_ RX7 3 [22] 10 true true (.object "TunedHouses") := by
  intro ci hc
  simp only [List.mem_cons, List.not_mem_nil, or_false] at hc
  subst hc
  exact ⟨RX7, TX7, 11, "TunedHouses$Terrace", tyX7, so_le rfl, rfl, in_X7, so_le rfl, rfl, rfl, (Or.inl q615), (fun _ _ _ _ g => g), tyX7_ok, nmX7, rfl, (by decide +kernel), fun _ => rfl⟩
theorem fp_X7_15_22 : jfp_ RX7 15 [22] 0 true true (.array .int) := by
  intro ci hc
  simp only [List.mem_cons, List.not_mem_nil, or_false] at hc
  subst hc
  exact ⟨RX7, TX7, 11, "TunedHouses$Terrace", tyX7, so_le rfl, rfl, in_X7, so_le rfl, rfl, rfl, (Or.inl q595), (fun _ _ _ _ g => g), tyX7_ok, nmX7, rfl, (by decide +kernel), fun _ => rfl⟩
theorem fp_X7_19_22 : jfp_ RX7 19 [22] 1 true true (.array .int) := by
  intro ci hc
  simp only [List.mem_cons, List.not_mem_nil, or_false] at hc
  subst hc
  exact ⟨RX7, TX7, 11, "TunedHouses$Terrace", tyX7, so_le rfl, rfl, in_X7, so_le rfl, rfl, rfl, (Or.inl q597), (fun _ _ _ _ g => g), tyX7_ok, nmX7, rfl, (by decide +kernel), fun _ => rfl⟩
theorem fp_X7_22_22 : jfp_ RX7 22 [22] 2 true true (.array .int) := by
  intro ci hc
  simp only [List.mem_cons, List.not_mem_nil, or_false] at hc
  subst hc
  exact ⟨RX7, TX7, 11, "TunedHouses$Terrace", tyX7, so_le rfl, rfl, in_X7, so_le rfl, rfl, rfl, (Or.inl q599), (fun _ _ _ _ g => g), tyX7_ok, nmX7, rfl, (by decide +kernel), fun _ => rfl⟩
theorem fp_X7_25_22 : jfp_ RX7 25 [22] 3 true true (.array .int) := by
  intro ci hc
  simp only [List.mem_cons, List.not_mem_nil, or_false] at hc
  subst hc
  exact ⟨RX7, TX7, 11, "TunedHouses$Terrace", tyX7, so_le rfl, rfl, in_X7, so_le rfl, rfl, rfl, (Or.inl q601), (fun _ _ _ _ g => g), tyX7_ok, nmX7, rfl, (by decide +kernel), fun _ => rfl⟩
theorem fp_X7_28_22 : jfp_ RX7 28 [22] 4 true true (.array .int) := by
  intro ci hc
  simp only [List.mem_cons, List.not_mem_nil, or_false] at hc
  subst hc
  exact ⟨RX7, TX7, 11, "TunedHouses$Terrace", tyX7, so_le rfl, rfl, in_X7, so_le rfl, rfl, rfl, (Or.inl q603), (fun _ _ _ _ g => g), tyX7_ok, nmX7, rfl, (by decide +kernel), fun _ => rfl⟩
theorem fl_X7_46_22 : jf_ RX7 46 [22] 5 false := by
  intro ci hc
  simp only [List.mem_cons, List.not_mem_nil, or_false] at hc
  subst hc
  exact ⟨RX7, TX7, 11, "TunedHouses$Terrace", so_le rfl, rfl, in_X7, so_le rfl, rfl, rfl, (Or.inl q604), (fun _ _ _ _ g => g)⟩
theorem fl_X7_49_22 : jf_ RX7 49 [22] 6 false := by
  intro ci hc
  simp only [List.mem_cons, List.not_mem_nil, or_false] at hc
  subst hc
  exact ⟨RX7, TX7, 11, "TunedHouses$Terrace", so_le rfl, rfl, in_X7, so_le rfl, rfl, rfl, (Or.inl q606), (fun _ _ _ _ g => g)⟩
theorem fl_X1_100_0 : jf_ RX1 100 [0] 11 false := by
  intro ci hc
  simp only [List.mem_cons, List.not_mem_nil, or_false] at hc
  subst hc
  exact ⟨RX1, TX1, 26, "TunedHouses", so_le rfl, rfl, in_X1, so_le rfl, rfl, rfl, (Or.inl q661), (fun _ _ _ _ g => g)⟩
theorem fl_X1_56_0 : jf_ RX1 56 [0] 7 true := by
  intro ci hc
  simp only [List.mem_cons, List.not_mem_nil, or_false] at hc
  subst hc
  exact ⟨RX1, TX1, 26, "TunedHouses", so_le rfl, rfl, in_X1, so_le rfl, rfl, rfl, (Or.inl q657), (fun _ _ _ _ g => g)⟩
theorem fp_X1_206_22 : jfp_ RX1 206 [22] 7 false false .int := by
  intro ci hc
  simp only [List.mem_cons, List.not_mem_nil, or_false] at hc
  subst hc
  exact ⟨RX7, TX7, 11, "TunedHouses$Terrace", tyX7, so_le rfl, rfl, in_X7, so_le rfl, rfl, rfl, (Or.inr ⟨rfl, _, q610⟩), (fun _ _ _ _ g => g), tyX7_ok, nmX7, rfl, (by decide +kernel), fun h => by cases h⟩
theorem fp_X1_209_22 : jfp_ RX1 209 [22] 8 false false .int := by
  intro ci hc
  simp only [List.mem_cons, List.not_mem_nil, or_false] at hc
  subst hc
  exact ⟨RX7, TX7, 11, "TunedHouses$Terrace", tyX7, so_le rfl, rfl, in_X7, so_le rfl, rfl, rfl, (Or.inr ⟨rfl, _, q612⟩), (fun _ _ _ _ g => g), tyX7_ok, nmX7, rfl, (by decide +kernel), fun h => by cases h⟩
theorem fp_X1_212_22 : jfp_ RX1 212 [22] 9 false false .int := by
  intro ci hc
  simp only [List.mem_cons, List.not_mem_nil, or_false] at hc
  subst hc
  exact ⟨RX7, TX7, 11, "TunedHouses$Terrace", tyX7, so_le rfl, rfl, in_X7, so_le rfl, rfl, rfl, (Or.inr ⟨rfl, _, q614⟩), (fun _ _ _ _ g => g), tyX7_ok, nmX7, rfl, (by decide +kernel), fun h => by cases h⟩
theorem ca_X1_214_14_15_16_17_18 : jc_ RX1 214 [14, 15, 16, 17, 18] := by
  intro ci hc
  simp only [List.mem_cons, List.not_mem_nil, or_false] at hc
  rcases hc with rfl | rfl | rfl | rfl | rfl
  · exact ⟨(RX24, TX24, 2), "TunedHouses$Step", so_le rfl, rfl, q1491, (Or.inl q2562)⟩
  · exact ⟨(RX25, TX25, 1), "TunedHouses$Step", so_le rfl, rfl, q1491, (Or.inl q2563)⟩
  · exact ⟨(RX26, TX26, 2), "TunedHouses$Step", so_le rfl, rfl, q1491, (Or.inl q2560)⟩
  · exact ⟨(RX27, jw_T0, 0), "TunedHouses$Step", so_le rfl, rfl, q1491, (Or.inl q2561)⟩
  · exact ⟨(RX28, TX28, 2), "TunedHouses$Step", so_le rfl, rfl, q1491, (Or.inl q2559)⟩
theorem fl_X1_212_22 : jf_ RX1 212 [22] 9 false := by
  intro ci hc
  simp only [List.mem_cons, List.not_mem_nil, or_false] at hc
  subst hc
  exact ⟨RX7, TX7, 11, "TunedHouses$Terrace", so_le rfl, rfl, in_X7, so_le rfl, rfl, rfl, (Or.inr ⟨_, q614⟩), (fun _ _ _ _ g => g)⟩
theorem fl_X1_209_22 : jf_ RX1 209 [22] 8 false := by
  intro ci hc
  simp only [List.mem_cons, List.not_mem_nil, or_false] at hc
  subst hc
  exact ⟨RX7, TX7, 11, "TunedHouses$Terrace", so_le rfl, rfl, in_X7, so_le rfl, rfl, rfl, (Or.inr ⟨_, q612⟩), (fun _ _ _ _ g => g)⟩
theorem fp_X29_9_19 : jfp_ RX29 9 [19] 5 true true (.array .int) := by
  intro ci hc
  simp only [List.mem_cons, List.not_mem_nil, or_false] at hc
  subst hc
  exact ⟨RX29, TX29, 7, "TunedHouses$BookReader", tyX29, so_le rfl, rfl, in_X29, so_le rfl, rfl, rfl, (Or.inl q1643), (fun _ _ _ _ g => g), tyX29_ok, nmX29, rfl, (by decide +kernel), fun _ => rfl⟩
theorem fl_X29_9_19 : jf_ RX29 9 [19] 5 true := by
  intro ci hc
  simp only [List.mem_cons, List.not_mem_nil, or_false] at hc
  subst hc
  exact ⟨RX29, TX29, 7, "TunedHouses$BookReader", so_le rfl, rfl, in_X29, so_le rfl, rfl, rfl, (Or.inl q1643), (fun _ _ _ _ g => g)⟩
theorem fl_X29_19_19 : jf_ RX29 19 [19] 2 false := by
  intro ci hc
  simp only [List.mem_cons, List.not_mem_nil, or_false] at hc
  subst hc
  exact ⟨RX29, TX29, 7, "TunedHouses$BookReader", so_le rfl, rfl, in_X29, so_le rfl, rfl, rfl, (Or.inl q911), (fun _ _ hts x g => u_same (hts _ q912) x g)⟩
theorem fl_X29_23_19 : jf_ RX29 23 [19] 1 false := by
  intro ci hc
  simp only [List.mem_cons, List.not_mem_nil, or_false] at hc
  subst hc
  exact ⟨RX29, TX29, 7, "TunedHouses$BookReader", so_le rfl, rfl, in_X29, so_le rfl, rfl, rfl, (Or.inl q902), (fun _ _ hts x g => u_same (hts _ q903) x g)⟩
theorem fl_X29_38_19 : jf_ RX29 38 [19] 6 false := by
  intro ci hc
  simp only [List.mem_cons, List.not_mem_nil, or_false] at hc
  subst hc
  exact ⟨RX29, TX29, 7, "TunedHouses$BookReader", so_le rfl, rfl, in_X29, so_le rfl, rfl, rfl, (Or.inl q1644), (fun _ _ _ _ g => g)⟩
theorem fp_X29_38_19 : jfp_ RX29 38 [19] 6 false false .int := by
  intro ci hc
  simp only [List.mem_cons, List.not_mem_nil, or_false] at hc
  subst hc
  exact ⟨RX29, TX29, 7, "TunedHouses$BookReader", tyX29, so_le rfl, rfl, in_X29, so_le rfl, rfl, rfl, (Or.inl q1644), (fun _ _ _ _ g => g), tyX29_ok, nmX29, rfl, (by decide +kernel), fun h => by cases h⟩
theorem fl_X29_32_19 : jf_ RX29 32 [19] 3 false := by
  intro ci hc
  simp only [List.mem_cons, List.not_mem_nil, or_false] at hc
  subst hc
  exact ⟨RX29, TX29, 7, "TunedHouses$BookReader", so_le rfl, rfl, in_X29, so_le rfl, rfl, rfl, (Or.inl q915), (fun _ _ hts x g => u_same (hts _ q916) x g)⟩
theorem fl_X1_232_19 : jf_ RX1 232 [19] 6 false := by
  intro ci hc
  simp only [List.mem_cons, List.not_mem_nil, or_false] at hc
  subst hc
  exact ⟨RX29, TX29, 7, "TunedHouses$BookReader", so_le rfl, rfl, in_X29, so_le rfl, rfl, rfl, (Or.inr ⟨_, q1645⟩), (fun _ _ _ _ g => g)⟩
theorem fl_X1_106_0 : jf_ RX1 106 [0] 13 false := by
  intro ci hc
  simp only [List.mem_cons, List.not_mem_nil, or_false] at hc
  subst hc
  exact ⟨RX1, TX1, 26, "TunedHouses", so_le rfl, rfl, in_X1, so_le rfl, rfl, rfl, (Or.inl q663), (fun _ _ _ _ g => g)⟩
theorem fl_X7_62_1 : jf_ RX7 62 [1] 2 true := by
  intro ci hc
  simp only [List.mem_cons, List.not_mem_nil, or_false] at hc
  subst hc
  exact ⟨RX2, TX2, 10, "TunedHouses$Told", so_le rfl, rfl, in_X2, so_le rfl, rfl, rfl, (Or.inr ⟨_, q514⟩), (fun _ _ _ _ g => g)⟩
theorem ca_X1_126_4 : jc_ RX1 126 [4] := by
  intro ci hc
  simp only [List.mem_cons, List.not_mem_nil, or_false] at hc
  subst hc
  exact ⟨(RX12, TX12, 2), "TunedHouses$Piano", so_le rfl, rfl, q822, (Or.inr rfl)⟩
theorem fl_X7_82_4 : jf_ RX7 82 [4] 0 false := by
  intro ci hc
  simp only [List.mem_cons, List.not_mem_nil, or_false] at hc
  subst hc
  exact ⟨RX12, TX12, 2, "TunedHouses$Piano", so_le rfl, rfl, in_X12, so_le rfl, rfl, rfl, (Or.inr ⟨_, q1127⟩), (fun _ _ _ _ g => g)⟩
theorem fl_X1_239_22 : jf_ RX1 239 [22] 0 true := by
  intro ci hc
  simp only [List.mem_cons, List.not_mem_nil, or_false] at hc
  subst hc
  exact ⟨RX7, TX7, 11, "TunedHouses$Terrace", so_le rfl, rfl, in_X7, so_le rfl, rfl, rfl, (Or.inr ⟨_, q596⟩), (fun _ _ _ _ g => g)⟩
theorem fl_X1_149_1 : jf_ RX1 149 [1] 6 false := by
  intro ci hc
  simp only [List.mem_cons, List.not_mem_nil, or_false] at hc
  subst hc
  exact ⟨RX2, TX2, 10, "TunedHouses$Told", so_le rfl, rfl, in_X2, so_le rfl, rfl, rfl, (Or.inr ⟨_, q528⟩), (fun _ _ _ _ g => g)⟩
theorem fl_X1_250_1 : jf_ RX1 250 [1] 7 false := by
  intro ci hc
  simp only [List.mem_cons, List.not_mem_nil, or_false] at hc
  subst hc
  exact ⟨RX2, TX2, 10, "TunedHouses$Told", so_le rfl, rfl, in_X2, so_le rfl, rfl, rfl, (Or.inr ⟨_, q531⟩), (fun _ _ _ _ g => g)⟩
theorem fl_X1_253_22 : jf_ RX1 253 [22] 6 false := by
  intro ci hc
  simp only [List.mem_cons, List.not_mem_nil, or_false] at hc
  subst hc
  exact ⟨RX7, TX7, 11, "TunedHouses$Terrace", so_le rfl, rfl, in_X7, so_le rfl, rfl, rfl, (Or.inr ⟨_, q607⟩), (fun _ _ _ _ g => g)⟩
theorem fl_X1_256_22 : jf_ RX1 256 [22] 5 false := by
  intro ci hc
  simp only [List.mem_cons, List.not_mem_nil, or_false] at hc
  subst hc
  exact ⟨RX7, TX7, 11, "TunedHouses$Terrace", so_le rfl, rfl, in_X7, so_le rfl, rfl, rfl, (Or.inr ⟨_, q605⟩), (fun _ _ _ _ g => g)⟩
theorem fl_X1_262_1 : jf_ RX1 262 [1] 1 true := by
  intro ci hc
  simp only [List.mem_cons, List.not_mem_nil, or_false] at hc
  subst hc
  exact ⟨RX2, TX2, 10, "TunedHouses$Told", so_le rfl, rfl, in_X2, so_le rfl, rfl, rfl, (Or.inr ⟨_, q512⟩), (fun _ _ _ _ g => g)⟩
theorem fl_X1_103_0 : jf_ RX1 103 [0] 12 false := by
  intro ci hc
  simp only [List.mem_cons, List.not_mem_nil, or_false] at hc
  subst hc
  exact ⟨RX1, TX1, 26, "TunedHouses", so_le rfl, rfl, in_X1, so_le rfl, rfl, rfl, (Or.inl q662), (fun _ _ _ _ g => g)⟩
theorem fl_X1_283_1 : jf_ RX1 283 [1] 2 true := by
  intro ci hc
  simp only [List.mem_cons, List.not_mem_nil, or_false] at hc
  subst hc
  exact ⟨RX2, TX2, 10, "TunedHouses$Told", so_le rfl, rfl, in_X2, so_le rfl, rfl, rfl, (Or.inr ⟨_, q516⟩), (fun _ _ _ _ g => g)⟩
theorem fl_X1_286_22 : jf_ RX1 286 [22] 3 true := by
  intro ci hc
  simp only [List.mem_cons, List.not_mem_nil, or_false] at hc
  subst hc
  exact ⟨RX7, TX7, 11, "TunedHouses$Terrace", so_le rfl, rfl, in_X7, so_le rfl, rfl, rfl, (Or.inr ⟨_, q602⟩), (fun _ _ _ _ g => g)⟩
theorem fl_X1_289_1 : jf_ RX1 289 [1] 0 true := by
  intro ci hc
  simp only [List.mem_cons, List.not_mem_nil, or_false] at hc
  subst hc
  exact ⟨RX2, TX2, 10, "TunedHouses$Told", so_le rfl, rfl, in_X2, so_le rfl, rfl, rfl, (Or.inr ⟨_, q509⟩), (fun _ _ _ _ g => g)⟩
theorem fl_X1_302_1 : jf_ RX1 302 [1] 4 true := by
  intro ci hc
  simp only [List.mem_cons, List.not_mem_nil, or_false] at hc
  subst hc
  exact ⟨RX2, TX2, 10, "TunedHouses$Told", so_le rfl, rfl, in_X2, so_le rfl, rfl, rfl, (Or.inr ⟨_, q520⟩), (fun _ _ _ _ g => g)⟩
theorem fl_X1_299_1 : jf_ RX1 299 [1] 3 true := by
  intro ci hc
  simp only [List.mem_cons, List.not_mem_nil, or_false] at hc
  subst hc
  exact ⟨RX2, TX2, 10, "TunedHouses$Told", so_le rfl, rfl, in_X2, so_le rfl, rfl, rfl, (Or.inr ⟨_, q518⟩), (fun _ _ _ _ g => g)⟩
theorem fl_X1_34_0 : jf_ RX1 34 [0] 2 true := by
  intro ci hc
  simp only [List.mem_cons, List.not_mem_nil, or_false] at hc
  subst hc
  exact ⟨RX1, TX1, 26, "TunedHouses", so_le rfl, rfl, in_X1, so_le rfl, rfl, rfl, (Or.inl q652), (fun _ _ _ _ g => g)⟩
theorem fl_X1_30_0 : jf_ RX1 30 [0] 1 true := by
  intro ci hc
  simp only [List.mem_cons, List.not_mem_nil, or_false] at hc
  subst hc
  exact ⟨RX1, TX1, 26, "TunedHouses", so_le rfl, rfl, in_X1, so_le rfl, rfl, rfl, (Or.inl q651), (fun _ _ _ _ g => g)⟩
theorem fl_X7_77_4 : jf_ RX7 77 [4] 1 false := by
  intro ci hc
  simp only [List.mem_cons, List.not_mem_nil, or_false] at hc
  subst hc
  exact ⟨RX12, TX12, 2, "TunedHouses$Piano", so_le rfl, rfl, in_X12, so_le rfl, rfl, rfl, (Or.inr ⟨_, q1130⟩), (fun _ _ _ _ g => g)⟩
theorem fl_X1_312_4 : jf_ RX1 312 [4] 0 false := by
  intro ci hc
  simp only [List.mem_cons, List.not_mem_nil, or_false] at hc
  subst hc
  exact ⟨RX12, TX12, 2, "TunedHouses$Piano", so_le rfl, rfl, in_X12, so_le rfl, rfl, rfl, (Or.inr ⟨_, q1128⟩), (fun _ _ _ _ g => g)⟩
theorem fl_X1_314_4 : jf_ RX1 314 [4] 1 false := by
  intro ci hc
  simp only [List.mem_cons, List.not_mem_nil, or_false] at hc
  subst hc
  exact ⟨RX12, TX12, 2, "TunedHouses$Piano", so_le rfl, rfl, in_X12, so_le rfl, rfl, rfl, (Or.inr ⟨_, q1131⟩), (fun _ _ _ _ g => g)⟩
theorem fl_X1_317_22 : jf_ RX1 317 [22] 1 true := by
  intro ci hc
  simp only [List.mem_cons, List.not_mem_nil, or_false] at hc
  subst hc
  exact ⟨RX7, TX7, 11, "TunedHouses$Terrace", so_le rfl, rfl, in_X7, so_le rfl, rfl, rfl, (Or.inr ⟨_, q598⟩), (fun _ _ _ _ g => g)⟩
theorem fl_X1_320_22 : jf_ RX1 320 [22] 2 true := by
  intro ci hc
  simp only [List.mem_cons, List.not_mem_nil, or_false] at hc
  subst hc
  exact ⟨RX7, TX7, 11, "TunedHouses$Terrace", so_le rfl, rfl, in_X7, so_le rfl, rfl, rfl, (Or.inr ⟨_, q600⟩), (fun _ _ _ _ g => g)⟩
theorem fl_X7_28_22 : jf_ RX7 28 [22] 4 true := by
  intro ci hc
  simp only [List.mem_cons, List.not_mem_nil, or_false] at hc
  subst hc
  exact ⟨RX7, TX7, 11, "TunedHouses$Terrace", so_le rfl, rfl, in_X7, so_le rfl, rfl, rfl, (Or.inl q603), (fun _ _ _ _ g => g)⟩
theorem fl_X1_53_0 : jf_ RX1 53 [0] 6 true := by
  intro ci hc
  simp only [List.mem_cons, List.not_mem_nil, or_false] at hc
  subst hc
  exact ⟨RX1, TX1, 26, "TunedHouses", so_le rfl, rfl, in_X1, so_le rfl, rfl, rfl, (Or.inl q656), (fun _ _ _ _ g => g)⟩
theorem fl_X1_77_0 : jf_ RX1 77 [0] 19 true := by
  intro ci hc
  simp only [List.mem_cons, List.not_mem_nil, or_false] at hc
  subst hc
  exact ⟨RX1, TX1, 26, "TunedHouses", so_le rfl, rfl, in_X1, so_le rfl, rfl, rfl, (Or.inl q669), (fun _ _ _ _ g => g)⟩
theorem fl_X1_352_0 : jf_ RX1 352 [0] 21 false := by
  intro ci hc
  simp only [List.mem_cons, List.not_mem_nil, or_false] at hc
  subst hc
  exact ⟨RX1, TX1, 26, "TunedHouses", so_le rfl, rfl, in_X1, so_le rfl, rfl, rfl, (Or.inl q671), (fun _ _ _ _ g => g)⟩
theorem fp_X1_352_0 : jfp_ RX1 352 [0] 21 false false .int := by
  intro ci hc
  simp only [List.mem_cons, List.not_mem_nil, or_false] at hc
  subst hc
  exact ⟨RX1, TX1, 26, "TunedHouses", tyX1, so_le rfl, rfl, in_X1, so_le rfl, rfl, rfl, (Or.inl q671), (fun _ _ _ _ g => g), tyX1_ok, nmX1, rfl, (by decide +kernel), fun h => by cases h⟩
theorem fl_X1_80_0 : jf_ RX1 80 [0] 20 true := by
  intro ci hc
  simp only [List.mem_cons, List.not_mem_nil, or_false] at hc
  subst hc
  exact ⟨RX1, TX1, 26, "TunedHouses", so_le rfl, rfl, in_X1, so_le rfl, rfl, rfl, (Or.inl q670), (fun _ _ _ _ g => g)⟩
theorem fl_X1_84_0 : jf_ RX1 84 [0] 22 true := by
  intro ci hc
  simp only [List.mem_cons, List.not_mem_nil, or_false] at hc
  subst hc
  exact ⟨RX1, TX1, 26, "TunedHouses", so_le rfl, rfl, in_X1, so_le rfl, rfl, rfl, (Or.inl q672), (fun _ _ _ _ g => g)⟩
theorem fl_X1_87_0 : jf_ RX1 87 [0] 23 true := by
  intro ci hc
  simp only [List.mem_cons, List.not_mem_nil, or_false] at hc
  subst hc
  exact ⟨RX1, TX1, 26, "TunedHouses", so_le rfl, rfl, in_X1, so_le rfl, rfl, rfl, (Or.inl q673), (fun _ _ _ _ g => g)⟩
theorem fl_X1_90_0 : jf_ RX1 90 [0] 24 true := by
  intro ci hc
  simp only [List.mem_cons, List.not_mem_nil, or_false] at hc
  subst hc
  exact ⟨RX1, TX1, 26, "TunedHouses", so_le rfl, rfl, in_X1, so_le rfl, rfl, rfl, (Or.inl q674), (fun _ _ _ _ g => g)⟩
theorem fl_X1_399_0 : jf_ RX1 399 [0] 14 false := by
  intro ci hc
  simp only [List.mem_cons, List.not_mem_nil, or_false] at hc
  subst hc
  exact ⟨RX1, TX1, 26, "TunedHouses", so_le rfl, rfl, in_X1, so_le rfl, rfl, rfl, (Or.inl q664), (fun _ _ _ _ g => g)⟩
theorem fp_X1_399_0 : jfp_ RX1 399 [0] 14 false false .int := by
  intro ci hc
  simp only [List.mem_cons, List.not_mem_nil, or_false] at hc
  subst hc
  exact ⟨RX1, TX1, 26, "TunedHouses", tyX1, so_le rfl, rfl, in_X1, so_le rfl, rfl, rfl, (Or.inl q664), (fun _ _ _ _ g => g), tyX1_ok, nmX1, rfl, (by decide +kernel), fun h => by cases h⟩
theorem fp_X1_403_0 : jfp_ RX1 403 [0] 25 false false .int := by
  intro ci hc
  simp only [List.mem_cons, List.not_mem_nil, or_false] at hc
  subst hc
  exact ⟨RX1, TX1, 26, "TunedHouses", tyX1, so_le rfl, rfl, in_X1, so_le rfl, rfl, rfl, (Or.inl q675), (fun _ _ _ _ g => g), tyX1_ok, nmX1, rfl, (by decide +kernel), fun h => by cases h⟩
theorem fl_X1_403_0 : jf_ RX1 403 [0] 25 false := by
  intro ci hc
  simp only [List.mem_cons, List.not_mem_nil, or_false] at hc
  subst hc
  exact ⟨RX1, TX1, 26, "TunedHouses", so_le rfl, rfl, in_X1, so_le rfl, rfl, rfl, (Or.inl q675), (fun _ _ _ _ g => g)⟩
theorem fp_X1_34_0 : jfp_ RX1 34 [0] 2 true true (.array .int) := by
  intro ci hc
  simp only [List.mem_cons, List.not_mem_nil, or_false] at hc
  subst hc
  exact ⟨RX1, TX1, 26, "TunedHouses", tyX1, so_le rfl, rfl, in_X1, so_le rfl, rfl, rfl, (Or.inl q652), (fun _ _ _ _ g => g), tyX1_ok, nmX1, rfl, (by decide +kernel), fun _ => rfl⟩
theorem fp_X1_38_0 : jfp_ RX1 38 [0] 3 true true (.array .int) := by
  intro ci hc
  simp only [List.mem_cons, List.not_mem_nil, or_false] at hc
  subst hc
  exact ⟨RX1, TX1, 26, "TunedHouses", tyX1, so_le rfl, rfl, in_X1, so_le rfl, rfl, rfl, (Or.inl q653), (fun _ _ _ _ g => g), tyX1_ok, nmX1, rfl, (by decide +kernel), fun _ => rfl⟩
theorem fp_X1_41_0 : jfp_ RX1 41 [0] 4 true true (.array .int) := by
  intro ci hc
  simp only [List.mem_cons, List.not_mem_nil, or_false] at hc
  subst hc
  exact ⟨RX1, TX1, 26, "TunedHouses", tyX1, so_le rfl, rfl, in_X1, so_le rfl, rfl, rfl, (Or.inl q654), (fun _ _ _ _ g => g), tyX1_ok, nmX1, rfl, (by decide +kernel), fun _ => rfl⟩
theorem fp_X1_49_0 : jfp_ RX1 49 [0] 5 true true (.object "TunedHouses$Terrace") := by
  intro ci hc
  simp only [List.mem_cons, List.not_mem_nil, or_false] at hc
  subst hc
  exact ⟨RX1, TX1, 26, "TunedHouses", tyX1, so_le rfl, rfl, in_X1, so_le rfl, rfl, rfl, (Or.inl q655), (fun _ _ _ _ g => g), tyX1_ok, nmX1, rfl, (by decide +kernel), fun _ => rfl⟩
theorem fp_X1_53_0 : jfp_ RX1 53 [0] 6 true true (.object "TunedHouses$Terrace") := by
  intro ci hc
  simp only [List.mem_cons, List.not_mem_nil, or_false] at hc
  subst hc
  exact ⟨RX1, TX1, 26, "TunedHouses", tyX1, so_le rfl, rfl, in_X1, so_le rfl, rfl, rfl, (Or.inl q656), (fun _ _ _ _ g => g), tyX1_ok, nmX1, rfl, (by decide +kernel), fun _ => rfl⟩
theorem fp_X1_56_0 : jfp_ RX1 56 [0] 7 true true (.array (.object "TunedHouses$Terrace")) := by
  intro ci hc
  simp only [List.mem_cons, List.not_mem_nil, or_false] at hc
  subst hc
  exact ⟨RX1, TX1, 26, "TunedHouses", tyX1, so_le rfl, rfl, in_X1, so_le rfl, rfl, rfl, (Or.inl q657), (fun _ _ _ _ g => g), tyX1_ok, nmX1, rfl, (by decide +kernel), fun _ => rfl⟩
theorem fp_X1_60_0 : jfp_ RX1 60 [0] 8 true true (.array (.object "TunedHouses$Terrace")) := by
  intro ci hc
  simp only [List.mem_cons, List.not_mem_nil, or_false] at hc
  subst hc
  exact ⟨RX1, TX1, 26, "TunedHouses", tyX1, so_le rfl, rfl, in_X1, so_le rfl, rfl, rfl, (Or.inl q658), (fun _ _ _ _ g => g), tyX1_ok, nmX1, rfl, (by decide +kernel), fun _ => rfl⟩
theorem fp_X1_63_0 : jfp_ RX1 63 [0] 9 true true (.array (.object "TunedHouses$Terrace")) := by
  intro ci hc
  simp only [List.mem_cons, List.not_mem_nil, or_false] at hc
  subst hc
  exact ⟨RX1, TX1, 26, "TunedHouses", tyX1, so_le rfl, rfl, in_X1, so_le rfl, rfl, rfl, (Or.inl q659), (fun _ _ _ _ g => g), tyX1_ok, nmX1, rfl, (by decide +kernel), fun _ => rfl⟩
theorem fp_X1_66_0 : jfp_ RX1 66 [0] 10 true true (.array .int) := by
  intro ci hc
  simp only [List.mem_cons, List.not_mem_nil, or_false] at hc
  subst hc
  exact ⟨RX1, TX1, 26, "TunedHouses", tyX1, so_le rfl, rfl, in_X1, so_le rfl, rfl, rfl, (Or.inl q660), (fun _ _ _ _ g => g), tyX1_ok, nmX1, rfl, (by decide +kernel), fun _ => rfl⟩
theorem fp_X1_73_0 : jfp_ RX1 73 [0] 18 true true (.array .byte) := by
  intro ci hc
  simp only [List.mem_cons, List.not_mem_nil, or_false] at hc
  subst hc
  exact ⟨RX1, TX1, 26, "TunedHouses", tyX1, so_le rfl, rfl, in_X1, so_le rfl, rfl, rfl, (Or.inl q668), (fun _ _ _ _ g => g), tyX1_ok, nmX1, rfl, (by decide +kernel), fun _ => rfl⟩
theorem fp_X1_77_0 : jfp_ RX1 77 [0] 19 true true (.array .int) := by
  intro ci hc
  simp only [List.mem_cons, List.not_mem_nil, or_false] at hc
  subst hc
  exact ⟨RX1, TX1, 26, "TunedHouses", tyX1, so_le rfl, rfl, in_X1, so_le rfl, rfl, rfl, (Or.inl q669), (fun _ _ _ _ g => g), tyX1_ok, nmX1, rfl, (by decide +kernel), fun _ => rfl⟩
theorem fp_X1_80_0 : jfp_ RX1 80 [0] 20 true true (.array .int) := by
  intro ci hc
  simp only [List.mem_cons, List.not_mem_nil, or_false] at hc
  subst hc
  exact ⟨RX1, TX1, 26, "TunedHouses", tyX1, so_le rfl, rfl, in_X1, so_le rfl, rfl, rfl, (Or.inl q670), (fun _ _ _ _ g => g), tyX1_ok, nmX1, rfl, (by decide +kernel), fun _ => rfl⟩
theorem fp_X1_84_0 : jfp_ RX1 84 [0] 22 true true (.array .int) := by
  intro ci hc
  simp only [List.mem_cons, List.not_mem_nil, or_false] at hc
  subst hc
  exact ⟨RX1, TX1, 26, "TunedHouses", tyX1, so_le rfl, rfl, in_X1, so_le rfl, rfl, rfl, (Or.inl q672), (fun _ _ _ _ g => g), tyX1_ok, nmX1, rfl, (by decide +kernel), fun _ => rfl⟩
theorem fp_X1_87_0 : jfp_ RX1 87 [0] 23 true true (.array .int) := by
  intro ci hc
  simp only [List.mem_cons, List.not_mem_nil, or_false] at hc
  subst hc
  exact ⟨RX1, TX1, 26, "TunedHouses", tyX1, so_le rfl, rfl, in_X1, so_le rfl, rfl, rfl, (Or.inl q673), (fun _ _ _ _ g => g), tyX1_ok, nmX1, rfl, (by decide +kernel), fun _ => rfl⟩
theorem fp_X1_90_0 : jfp_ RX1 90 [0] 24 true true (.array .boolean) := by
  intro ci hc
  simp only [List.mem_cons, List.not_mem_nil, or_false] at hc
  subst hc
  exact ⟨RX1, TX1, 26, "TunedHouses", tyX1, so_le rfl, rfl, in_X1, so_le rfl, rfl, rfl, (Or.inl q674), (fun _ _ _ _ g => g), tyX1_ok, nmX1, rfl, (by decide +kernel), fun _ => rfl⟩
theorem fl_X1_69_0 : jf_ RX1 69 [0] 16 false := by
  intro ci hc
  simp only [List.mem_cons, List.not_mem_nil, or_false] at hc
  subst hc
  exact ⟨RX1, TX1, 26, "TunedHouses", so_le rfl, rfl, in_X1, so_le rfl, rfl, rfl, (Or.inl q666), (fun _ _ _ _ g => g)⟩
theorem fl_X1_109_0 : jf_ RX1 109 [0] 17 false := by
  intro ci hc
  simp only [List.mem_cons, List.not_mem_nil, or_false] at hc
  subst hc
  exact ⟨RX1, TX1, 26, "TunedHouses", so_le rfl, rfl, in_X1, so_le rfl, rfl, rfl, (Or.inl q667), (fun _ _ _ _ g => g)⟩
theorem fl_X1_60_0 : jf_ RX1 60 [0] 8 true := by
  intro ci hc
  simp only [List.mem_cons, List.not_mem_nil, or_false] at hc
  subst hc
  exact ⟨RX1, TX1, 26, "TunedHouses", so_le rfl, rfl, in_X1, so_le rfl, rfl, rfl, (Or.inl q658), (fun _ _ _ _ g => g)⟩
theorem fl_X1_63_0 : jf_ RX1 63 [0] 9 true := by
  intro ci hc
  simp only [List.mem_cons, List.not_mem_nil, or_false] at hc
  subst hc
  exact ⟨RX1, TX1, 26, "TunedHouses", so_le rfl, rfl, in_X1, so_le rfl, rfl, rfl, (Or.inl q659), (fun _ _ _ _ g => g)⟩
theorem fl_X1_66_0 : jf_ RX1 66 [0] 10 true := by
  intro ci hc
  simp only [List.mem_cons, List.not_mem_nil, or_false] at hc
  subst hc
  exact ⟨RX1, TX1, 26, "TunedHouses", so_le rfl, rfl, in_X1, so_le rfl, rfl, rfl, (Or.inl q660), (fun _ _ _ _ g => g)⟩
theorem fl_X14_7_6 : jf_ RX14 7 [6] 0 false := by
  intro ci hc
  simp only [List.mem_cons, List.not_mem_nil, or_false] at hc
  subst hc
  exact ⟨RX14, TX14, 1, "TunedHouses$Plain", so_le rfl, rfl, in_X14, so_le rfl, rfl, rfl, (Or.inl q1265), (fun _ _ _ _ g => g)⟩
theorem fl_X22_9_22 : jf_ RX22 9 [22] 7 false := by
  intro ci hc
  simp only [List.mem_cons, List.not_mem_nil, or_false] at hc
  subst hc
  exact ⟨RX7, TX7, 11, "TunedHouses$Terrace", so_le rfl, rfl, in_X7, so_le rfl, rfl, rfl, (Or.inr ⟨_, q609⟩), (fun _ _ _ _ g => g)⟩
theorem fp_X22_9_22 : jfp_ RX22 9 [22] 7 false false .int := by
  intro ci hc
  simp only [List.mem_cons, List.not_mem_nil, or_false] at hc
  subst hc
  exact ⟨RX7, TX7, 11, "TunedHouses$Terrace", tyX7, so_le rfl, rfl, in_X7, so_le rfl, rfl, rfl, (Or.inr ⟨rfl, _, q609⟩), (fun _ _ _ _ g => g), tyX7_ok, nmX7, rfl, (by decide +kernel), fun h => by cases h⟩
theorem fl_X23_16_22 : jf_ RX23 16 [22] 8 false := by
  intro ci hc
  simp only [List.mem_cons, List.not_mem_nil, or_false] at hc
  subst hc
  exact ⟨RX7, TX7, 11, "TunedHouses$Terrace", so_le rfl, rfl, in_X7, so_le rfl, rfl, rfl, (Or.inr ⟨_, q611⟩), (fun _ _ _ _ g => g)⟩
theorem fp_X23_16_22 : jfp_ RX23 16 [22] 8 false false .int := by
  intro ci hc
  simp only [List.mem_cons, List.not_mem_nil, or_false] at hc
  subst hc
  exact ⟨RX7, TX7, 11, "TunedHouses$Terrace", tyX7, so_le rfl, rfl, in_X7, so_le rfl, rfl, rfl, (Or.inr ⟨rfl, _, q611⟩), (fun _ _ _ _ g => g), tyX7_ok, nmX7, rfl, (by decide +kernel), fun h => by cases h⟩
theorem fl_X23_22_22 : jf_ RX23 22 [22] 9 false := by
  intro ci hc
  simp only [List.mem_cons, List.not_mem_nil, or_false] at hc
  subst hc
  exact ⟨RX7, TX7, 11, "TunedHouses$Terrace", so_le rfl, rfl, in_X7, so_le rfl, rfl, rfl, (Or.inr ⟨_, q613⟩), (fun _ _ _ _ g => g)⟩
theorem fp_X23_22_22 : jfp_ RX23 22 [22] 9 false false .int := by
  intro ci hc
  simp only [List.mem_cons, List.not_mem_nil, or_false] at hc
  subst hc
  exact ⟨RX7, TX7, 11, "TunedHouses$Terrace", tyX7, so_le rfl, rfl, in_X7, so_le rfl, rfl, rfl, (Or.inr ⟨rfl, _, q613⟩), (fun _ _ _ _ g => g), tyX7_ok, nmX7, rfl, (by decide +kernel), fun h => by cases h⟩
theorem fl_X24_7_14 : jf_ RX24 7 [14] 0 false := by
  intro ci hc
  simp only [List.mem_cons, List.not_mem_nil, or_false] at hc
  subst hc
  exact ⟨RX24, TX24, 2, "TunedHouses$Puts", so_le rfl, rfl, in_X24, so_le rfl, rfl, rfl, (Or.inl q1424), (fun _ _ _ _ g => g)⟩
theorem fl_X24_13_14 : jf_ RX24 13 [14] 1 false := by
  intro ci hc
  simp only [List.mem_cons, List.not_mem_nil, or_false] at hc
  subst hc
  exact ⟨RX24, TX24, 2, "TunedHouses$Puts", so_le rfl, rfl, in_X24, so_le rfl, rfl, rfl, (Or.inl q1425), (fun _ _ _ _ g => g)⟩
theorem fl_X25_7_15 : jf_ RX25 7 [15] 0 false := by
  intro ci hc
  simp only [List.mem_cons, List.not_mem_nil, or_false] at hc
  subst hc
  exact ⟨RX25, TX25, 1, "TunedHouses$Takes", so_le rfl, rfl, in_X25, so_le rfl, rfl, rfl, (Or.inl q1437), (fun _ _ _ _ g => g)⟩
theorem fl_X26_7_16 : jf_ RX26 7 [16] 0 false := by
  intro ci hc
  simp only [List.mem_cons, List.not_mem_nil, or_false] at hc
  subst hc
  exact ⟨RX26, TX26, 2, "TunedHouses$Lays", so_le rfl, rfl, in_X26, so_le rfl, rfl, rfl, (Or.inl q1447), (fun _ _ _ _ g => g)⟩
theorem fl_X26_13_16 : jf_ RX26 13 [16] 1 false := by
  intro ci hc
  simp only [List.mem_cons, List.not_mem_nil, or_false] at hc
  subst hc
  exact ⟨RX26, TX26, 2, "TunedHouses$Lays", so_le rfl, rfl, in_X26, so_le rfl, rfl, rfl, (Or.inl q1448), (fun _ _ _ _ g => g)⟩
theorem fl_X28_20_18 : jf_ RX28 20 [18] 0 false := by
  intro ci hc
  simp only [List.mem_cons, List.not_mem_nil, or_false] at hc
  subst hc
  exact ⟨RX28, TX28, 2, "TunedHouses$Again", so_le rfl, rfl, in_X28, so_le rfl, rfl, rfl, (Or.inl q1476), (fun _ _ _ _ g => g)⟩
theorem fl_X28_28_22 : jf_ RX28 28 [22] 7 false := by
  intro ci hc
  simp only [List.mem_cons, List.not_mem_nil, or_false] at hc
  subst hc
  exact ⟨RX7, TX7, 11, "TunedHouses$Terrace", so_le rfl, rfl, in_X7, so_le rfl, rfl, rfl, (Or.inr ⟨_, q608⟩), (fun _ _ _ _ g => g)⟩
theorem fl_X28_14_18 : jf_ RX28 14 [18] 1 true := by
  intro ci hc
  simp only [List.mem_cons, List.not_mem_nil, or_false] at hc
  subst hc
  exact ⟨RX28, TX28, 2, "TunedHouses$Again", so_le rfl, rfl, in_X28, so_le rfl, rfl, rfl, (Or.inl q1477), (fun _ _ _ _ g => g)⟩
theorem ca_X28_4_14_15_16_17_18 : jc_ RX28 4 [14, 15, 16, 17, 18] := by
  intro ci hc
  simp only [List.mem_cons, List.not_mem_nil, or_false] at hc
  rcases hc with rfl | rfl | rfl | rfl | rfl
  · exact ⟨(RX24, TX24, 2), "TunedHouses$Step", so_le rfl, rfl, q1504, (Or.inl q2562)⟩
  · exact ⟨(RX25, TX25, 1), "TunedHouses$Step", so_le rfl, rfl, q1504, (Or.inl q2563)⟩
  · exact ⟨(RX26, TX26, 2), "TunedHouses$Step", so_le rfl, rfl, q1504, (Or.inl q2560)⟩
  · exact ⟨(RX27, jw_T0, 0), "TunedHouses$Step", so_le rfl, rfl, q1504, (Or.inl q2561)⟩
  · exact ⟨(RX28, TX28, 2), "TunedHouses$Step", so_le rfl, rfl, q1504, (Or.inl q2559)⟩
theorem fl_X4_7_7_8_9_10_11_12_20 : jf_ RX4 7 [7, 8, 9, 10, 11, 12, 20] 0 true := by
  intro ci hc
  simp only [List.mem_cons, List.not_mem_nil, or_false] at hc
  rcases hc with rfl | rfl | rfl | rfl | rfl | rfl | rfl
  · exact ⟨RX15, TX15, 2, "TunedHouses$Two", so_le rfl, rfl, in_X15, so_le rfl, rfl, rfl, (Or.inl q582), (fun _ _ _ _ g => g)⟩
  · exact ⟨RX16, TX16, 2, "TunedHouses$Two", so_le rfl, rfl, in_X16, so_le rfl, rfl, rfl, (Or.inl q582), (fun _ _ _ _ g => g)⟩
  · exact ⟨RX17, TX17, 2, "TunedHouses$Two", so_le rfl, rfl, in_X17, so_le rfl, rfl, rfl, (Or.inl q582), (fun _ _ _ _ g => g)⟩
  · exact ⟨RX18, TX18, 2, "TunedHouses$Two", so_le rfl, rfl, in_X18, so_le rfl, rfl, rfl, (Or.inl q582), (fun _ _ _ _ g => g)⟩
  · exact ⟨RX19, TX19, 2, "TunedHouses$Two", so_le rfl, rfl, in_X19, so_le rfl, rfl, rfl, (Or.inl q582), (fun _ _ _ _ g => g)⟩
  · exact ⟨RX20, TX20, 2, "TunedHouses$Two", so_le rfl, rfl, in_X20, so_le rfl, rfl, rfl, (Or.inl q582), (fun _ _ _ _ g => g)⟩
  · exact ⟨RX5, TX5, 2, "TunedHouses$Two", so_le rfl, rfl, in_X5, so_le rfl, rfl, rfl, (Or.inl q582), (fun _ _ _ _ g => g)⟩
theorem fl_X4_13_7_8_9_10_11_12_20 : jf_ RX4 13 [7, 8, 9, 10, 11, 12, 20] 1 true := by
  intro ci hc
  simp only [List.mem_cons, List.not_mem_nil, or_false] at hc
  rcases hc with rfl | rfl | rfl | rfl | rfl | rfl | rfl
  · exact ⟨RX15, TX15, 2, "TunedHouses$Two", so_le rfl, rfl, in_X15, so_le rfl, rfl, rfl, (Or.inl q583), (fun _ _ _ _ g => g)⟩
  · exact ⟨RX16, TX16, 2, "TunedHouses$Two", so_le rfl, rfl, in_X16, so_le rfl, rfl, rfl, (Or.inl q583), (fun _ _ _ _ g => g)⟩
  · exact ⟨RX17, TX17, 2, "TunedHouses$Two", so_le rfl, rfl, in_X17, so_le rfl, rfl, rfl, (Or.inl q583), (fun _ _ _ _ g => g)⟩
  · exact ⟨RX18, TX18, 2, "TunedHouses$Two", so_le rfl, rfl, in_X18, so_le rfl, rfl, rfl, (Or.inl q583), (fun _ _ _ _ g => g)⟩
  · exact ⟨RX19, TX19, 2, "TunedHouses$Two", so_le rfl, rfl, in_X19, so_le rfl, rfl, rfl, (Or.inl q583), (fun _ _ _ _ g => g)⟩
  · exact ⟨RX20, TX20, 2, "TunedHouses$Two", so_le rfl, rfl, in_X20, so_le rfl, rfl, rfl, (Or.inl q583), (fun _ _ _ _ g => g)⟩
  · exact ⟨RX5, TX5, 2, "TunedHouses$Two", so_le rfl, rfl, in_X5, so_le rfl, rfl, rfl, (Or.inl q583), (fun _ _ _ _ g => g)⟩
theorem fl_X6_7_21 : jf_ RX6 7 [21] 0 false := by
  intro ci hc
  simp only [List.mem_cons, List.not_mem_nil, or_false] at hc
  subst hc
  exact ⟨RX6, TX6, 1, "TunedHouses$Fact", so_le rfl, rfl, in_X6, so_le rfl, rfl, rfl, (Or.inl q571), (fun _ _ _ _ g => g)⟩
theorem fl_X8_20_23 : jf_ RX8 20 [23] 11 true := by
  intro ci hc
  simp only [List.mem_cons, List.not_mem_nil, or_false] at hc
  subst hc
  exact ⟨RX8, TX8, 50, "TunedHousesModel", so_le rfl, rfl, in_X8, so_le rfl, rfl, rfl, (Or.inl q1965), (fun _ _ _ _ g => g)⟩
theorem fl_X8_32_23 : jf_ RX8 32 [23] 15 true := by
  intro ci hc
  simp only [List.mem_cons, List.not_mem_nil, or_false] at hc
  subst hc
  exact ⟨RX8, TX8, 50, "TunedHousesModel", so_le rfl, rfl, in_X8, so_le rfl, rfl, rfl, (Or.inl q1969), (fun _ _ _ _ g => g)⟩
theorem fl_X8_23_23 : jf_ RX8 23 [23] 12 true := by
  intro ci hc
  simp only [List.mem_cons, List.not_mem_nil, or_false] at hc
  subst hc
  exact ⟨RX8, TX8, 50, "TunedHousesModel", so_le rfl, rfl, in_X8, so_le rfl, rfl, rfl, (Or.inl q1966), (fun _ _ _ _ g => g)⟩
theorem fl_X8_73_23 : jf_ RX8 73 [23] 31 true := by
  intro ci hc
  simp only [List.mem_cons, List.not_mem_nil, or_false] at hc
  subst hc
  exact ⟨RX8, TX8, 50, "TunedHousesModel", so_le rfl, rfl, in_X8, so_le rfl, rfl, rfl, (Or.inl q1985), (fun _ _ _ _ g => g)⟩
theorem fl_X8_29_23 : jf_ RX8 29 [23] 14 true := by
  intro ci hc
  simp only [List.mem_cons, List.not_mem_nil, or_false] at hc
  subst hc
  exact ⟨RX8, TX8, 50, "TunedHousesModel", so_le rfl, rfl, in_X8, so_le rfl, rfl, rfl, (Or.inl q1968), (fun _ _ _ _ g => g)⟩
theorem fl_X8_26_23 : jf_ RX8 26 [23] 13 true := by
  intro ci hc
  simp only [List.mem_cons, List.not_mem_nil, or_false] at hc
  subst hc
  exact ⟨RX8, TX8, 50, "TunedHousesModel", so_le rfl, rfl, in_X8, so_le rfl, rfl, rfl, (Or.inl q1967), (fun _ _ _ _ g => g)⟩
theorem fl_X8_35_23 : jf_ RX8 35 [23] 16 true := by
  intro ci hc
  simp only [List.mem_cons, List.not_mem_nil, or_false] at hc
  subst hc
  exact ⟨RX8, TX8, 50, "TunedHousesModel", so_le rfl, rfl, in_X8, so_le rfl, rfl, rfl, (Or.inl q1970), (fun _ _ _ _ g => g)⟩
theorem fl_X8_40_23 : jf_ RX8 40 [23] 17 true := by
  intro ci hc
  simp only [List.mem_cons, List.not_mem_nil, or_false] at hc
  subst hc
  exact ⟨RX8, TX8, 50, "TunedHousesModel", so_le rfl, rfl, in_X8, so_le rfl, rfl, rfl, (Or.inl q1971), (fun _ _ _ _ g => g)⟩
theorem fl_X8_43_23 : jf_ RX8 43 [23] 18 true := by
  intro ci hc
  simp only [List.mem_cons, List.not_mem_nil, or_false] at hc
  subst hc
  exact ⟨RX8, TX8, 50, "TunedHousesModel", so_le rfl, rfl, in_X8, so_le rfl, rfl, rfl, (Or.inl q1972), (fun _ _ _ _ g => g)⟩
theorem fl_X8_46_23 : jf_ RX8 46 [23] 19 true := by
  intro ci hc
  simp only [List.mem_cons, List.not_mem_nil, or_false] at hc
  subst hc
  exact ⟨RX8, TX8, 50, "TunedHousesModel", so_le rfl, rfl, in_X8, so_le rfl, rfl, rfl, (Or.inl q1973), (fun _ _ _ _ g => g)⟩
theorem fl_X8_49_23 : jf_ RX8 49 [23] 20 true := by
  intro ci hc
  simp only [List.mem_cons, List.not_mem_nil, or_false] at hc
  subst hc
  exact ⟨RX8, TX8, 50, "TunedHousesModel", so_le rfl, rfl, in_X8, so_le rfl, rfl, rfl, (Or.inl q1974), (fun _ _ _ _ g => g)⟩
theorem fp_X8_206_23 : jfp_ RX8 206 [23] 21 false false .int := by
  intro ci hc
  simp only [List.mem_cons, List.not_mem_nil, or_false] at hc
  subst hc
  exact ⟨RX8, TX8, 50, "TunedHousesModel", tyX8, so_le rfl, rfl, in_X8, so_le rfl, rfl, rfl, (Or.inl q1975), (fun _ _ _ _ g => g), tyX8_ok, nmX8, rfl, (by decide +kernel), fun h => by cases h⟩
theorem fp_X8_209_23 : jfp_ RX8 209 [23] 36 false false .int := by
  intro ci hc
  simp only [List.mem_cons, List.not_mem_nil, or_false] at hc
  subst hc
  exact ⟨RX8, TX8, 50, "TunedHousesModel", tyX8, so_le rfl, rfl, in_X8, so_le rfl, rfl, rfl, (Or.inl q1990), (fun _ _ _ _ g => g), tyX8_ok, nmX8, rfl, (by decide +kernel), fun h => by cases h⟩
theorem fp_X8_212_23 : jfp_ RX8 212 [23] 37 false false .int := by
  intro ci hc
  simp only [List.mem_cons, List.not_mem_nil, or_false] at hc
  subst hc
  exact ⟨RX8, TX8, 50, "TunedHousesModel", tyX8, so_le rfl, rfl, in_X8, so_le rfl, rfl, rfl, (Or.inl q1991), (fun _ _ _ _ g => g), tyX8_ok, nmX8, rfl, (by decide +kernel), fun h => by cases h⟩
theorem fp_X8_215_23 : jfp_ RX8 215 [23] 38 false false .int := by
  intro ci hc
  simp only [List.mem_cons, List.not_mem_nil, or_false] at hc
  subst hc
  exact ⟨RX8, TX8, 50, "TunedHousesModel", tyX8, so_le rfl, rfl, in_X8, so_le rfl, rfl, rfl, (Or.inl q1992), (fun _ _ _ _ g => g), tyX8_ok, nmX8, rfl, (by decide +kernel), fun h => by cases h⟩
theorem fp_X8_218_23 : jfp_ RX8 218 [23] 39 false false .int := by
  intro ci hc
  simp only [List.mem_cons, List.not_mem_nil, or_false] at hc
  subst hc
  exact ⟨RX8, TX8, 50, "TunedHousesModel", tyX8, so_le rfl, rfl, in_X8, so_le rfl, rfl, rfl, (Or.inl q1993), (fun _ _ _ _ g => g), tyX8_ok, nmX8, rfl, (by decide +kernel), fun h => by cases h⟩
theorem fp_X8_9_23 : jfp_ RX8 9 [23] 3 false false .int := by
  intro ci hc
  simp only [List.mem_cons, List.not_mem_nil, or_false] at hc
  subst hc
  exact ⟨RX8, TX8, 50, "TunedHousesModel", tyX8, so_le rfl, rfl, in_X8, so_le rfl, rfl, rfl, (Or.inl q1957), (fun _ _ _ _ g => g), tyX8_ok, nmX8, rfl, (by decide +kernel), fun h => by cases h⟩
theorem fp_X8_13_23 : jfp_ RX8 13 [23] 9 true true (.array .int) := by
  intro ci hc
  simp only [List.mem_cons, List.not_mem_nil, or_false] at hc
  subst hc
  exact ⟨RX8, TX8, 50, "TunedHousesModel", tyX8, so_le rfl, rfl, in_X8, so_le rfl, rfl, rfl, (Or.inl q1963), (fun _ _ _ _ g => g), tyX8_ok, nmX8, rfl, (by decide +kernel), fun _ => rfl⟩
theorem fp_X8_17_23 : jfp_ RX8 17 [23] 10 true true (.array .int) := by
  intro ci hc
  simp only [List.mem_cons, List.not_mem_nil, or_false] at hc
  subst hc
  exact ⟨RX8, TX8, 50, "TunedHousesModel", tyX8, so_le rfl, rfl, in_X8, so_le rfl, rfl, rfl, (Or.inl q1964), (fun _ _ _ _ g => g), tyX8_ok, nmX8, rfl, (by decide +kernel), fun _ => rfl⟩
theorem fp_X8_20_23 : jfp_ RX8 20 [23] 11 true true (.array .int) := by
  intro ci hc
  simp only [List.mem_cons, List.not_mem_nil, or_false] at hc
  subst hc
  exact ⟨RX8, TX8, 50, "TunedHousesModel", tyX8, so_le rfl, rfl, in_X8, so_le rfl, rfl, rfl, (Or.inl q1965), (fun _ _ _ _ g => g), tyX8_ok, nmX8, rfl, (by decide +kernel), fun _ => rfl⟩
theorem fp_X8_23_23 : jfp_ RX8 23 [23] 12 true true (.array .int) := by
  intro ci hc
  simp only [List.mem_cons, List.not_mem_nil, or_false] at hc
  subst hc
  exact ⟨RX8, TX8, 50, "TunedHousesModel", tyX8, so_le rfl, rfl, in_X8, so_le rfl, rfl, rfl, (Or.inl q1966), (fun _ _ _ _ g => g), tyX8_ok, nmX8, rfl, (by decide +kernel), fun _ => rfl⟩
theorem fp_X8_26_23 : jfp_ RX8 26 [23] 13 true true (.array .int) := by
  intro ci hc
  simp only [List.mem_cons, List.not_mem_nil, or_false] at hc
  subst hc
  exact ⟨RX8, TX8, 50, "TunedHousesModel", tyX8, so_le rfl, rfl, in_X8, so_le rfl, rfl, rfl, (Or.inl q1967), (fun _ _ _ _ g => g), tyX8_ok, nmX8, rfl, (by decide +kernel), fun _ => rfl⟩
theorem fp_X8_29_23 : jfp_ RX8 29 [23] 14 true true (.array .int) := by
  intro ci hc
  simp only [List.mem_cons, List.not_mem_nil, or_false] at hc
  subst hc
  exact ⟨RX8, TX8, 50, "TunedHousesModel", tyX8, so_le rfl, rfl, in_X8, so_le rfl, rfl, rfl, (Or.inl q1968), (fun _ _ _ _ g => g), tyX8_ok, nmX8, rfl, (by decide +kernel), fun _ => rfl⟩
theorem fp_X8_32_23 : jfp_ RX8 32 [23] 15 true true (.array .int) := by
  intro ci hc
  simp only [List.mem_cons, List.not_mem_nil, or_false] at hc
  subst hc
  exact ⟨RX8, TX8, 50, "TunedHousesModel", tyX8, so_le rfl, rfl, in_X8, so_le rfl, rfl, rfl, (Or.inl q1969), (fun _ _ _ _ g => g), tyX8_ok, nmX8, rfl, (by decide +kernel), fun _ => rfl⟩
theorem fp_X8_35_23 : jfp_ RX8 35 [23] 16 true true (.array .int) := by
  intro ci hc
  simp only [List.mem_cons, List.not_mem_nil, or_false] at hc
  subst hc
  exact ⟨RX8, TX8, 50, "TunedHousesModel", tyX8, so_le rfl, rfl, in_X8, so_le rfl, rfl, rfl, (Or.inl q1970), (fun _ _ _ _ g => g), tyX8_ok, nmX8, rfl, (by decide +kernel), fun _ => rfl⟩
theorem fp_X8_40_23 : jfp_ RX8 40 [23] 17 true true (.array (.array .int)) := by
  intro ci hc
  simp only [List.mem_cons, List.not_mem_nil, or_false] at hc
  subst hc
  exact ⟨RX8, TX8, 50, "TunedHousesModel", tyX8, so_le rfl, rfl, in_X8, so_le rfl, rfl, rfl, (Or.inl q1971), (fun _ _ _ _ g => g), tyX8_ok, nmX8, rfl, (by decide +kernel), fun _ => rfl⟩
theorem fp_X8_43_23 : jfp_ RX8 43 [23] 18 true true (.array (.array .int)) := by
  intro ci hc
  simp only [List.mem_cons, List.not_mem_nil, or_false] at hc
  subst hc
  exact ⟨RX8, TX8, 50, "TunedHousesModel", tyX8, so_le rfl, rfl, in_X8, so_le rfl, rfl, rfl, (Or.inl q1972), (fun _ _ _ _ g => g), tyX8_ok, nmX8, rfl, (by decide +kernel), fun _ => rfl⟩
theorem fp_X8_46_23 : jfp_ RX8 46 [23] 19 true true (.array (.array .int)) := by
  intro ci hc
  simp only [List.mem_cons, List.not_mem_nil, or_false] at hc
  subst hc
  exact ⟨RX8, TX8, 50, "TunedHousesModel", tyX8, so_le rfl, rfl, in_X8, so_le rfl, rfl, rfl, (Or.inl q1973), (fun _ _ _ _ g => g), tyX8_ok, nmX8, rfl, (by decide +kernel), fun _ => rfl⟩
theorem fp_X8_49_23 : jfp_ RX8 49 [23] 20 true true (.array (.array .int)) := by
  intro ci hc
  simp only [List.mem_cons, List.not_mem_nil, or_false] at hc
  subst hc
  exact ⟨RX8, TX8, 50, "TunedHousesModel", tyX8, so_le rfl, rfl, in_X8, so_le rfl, rfl, rfl, (Or.inl q1974), (fun _ _ _ _ g => g), tyX8_ok, nmX8, rfl, (by decide +kernel), fun _ => rfl⟩
theorem fp_X8_52_23 : jfp_ RX8 52 [23] 23 true true (.array (.array .int)) := by
  intro ci hc
  simp only [List.mem_cons, List.not_mem_nil, or_false] at hc
  subst hc
  exact ⟨RX8, TX8, 50, "TunedHousesModel", tyX8, so_le rfl, rfl, in_X8, so_le rfl, rfl, rfl, (Or.inl q1977), (fun _ _ _ _ g => g), tyX8_ok, nmX8, rfl, (by decide +kernel), fun _ => rfl⟩
theorem fp_X8_55_23 : jfp_ RX8 55 [23] 24 true true (.array (.array .int)) := by
  intro ci hc
  simp only [List.mem_cons, List.not_mem_nil, or_false] at hc
  subst hc
  exact ⟨RX8, TX8, 50, "TunedHousesModel", tyX8, so_le rfl, rfl, in_X8, so_le rfl, rfl, rfl, (Or.inl q1978), (fun _ _ _ _ g => g), tyX8_ok, nmX8, rfl, (by decide +kernel), fun _ => rfl⟩
theorem fp_X8_58_23 : jfp_ RX8 58 [23] 25 true true (.array (.array .int)) := by
  intro ci hc
  simp only [List.mem_cons, List.not_mem_nil, or_false] at hc
  subst hc
  exact ⟨RX8, TX8, 50, "TunedHousesModel", tyX8, so_le rfl, rfl, in_X8, so_le rfl, rfl, rfl, (Or.inl q1979), (fun _ _ _ _ g => g), tyX8_ok, nmX8, rfl, (by decide +kernel), fun _ => rfl⟩
theorem fp_X8_61_23 : jfp_ RX8 61 [23] 26 true true (.array (.array .int)) := by
  intro ci hc
  simp only [List.mem_cons, List.not_mem_nil, or_false] at hc
  subst hc
  exact ⟨RX8, TX8, 50, "TunedHousesModel", tyX8, so_le rfl, rfl, in_X8, so_le rfl, rfl, rfl, (Or.inl q1980), (fun _ _ _ _ g => g), tyX8_ok, nmX8, rfl, (by decide +kernel), fun _ => rfl⟩
theorem fp_X8_64_23 : jfp_ RX8 64 [23] 27 true true (.array .int) := by
  intro ci hc
  simp only [List.mem_cons, List.not_mem_nil, or_false] at hc
  subst hc
  exact ⟨RX8, TX8, 50, "TunedHousesModel", tyX8, so_le rfl, rfl, in_X8, so_le rfl, rfl, rfl, (Or.inl q1981), (fun _ _ _ _ g => g), tyX8_ok, nmX8, rfl, (by decide +kernel), fun _ => rfl⟩
theorem fp_X8_67_23 : jfp_ RX8 67 [23] 28 true true (.array .int) := by
  intro ci hc
  simp only [List.mem_cons, List.not_mem_nil, or_false] at hc
  subst hc
  exact ⟨RX8, TX8, 50, "TunedHousesModel", tyX8, so_le rfl, rfl, in_X8, so_le rfl, rfl, rfl, (Or.inl q1982), (fun _ _ _ _ g => g), tyX8_ok, nmX8, rfl, (by decide +kernel), fun _ => rfl⟩
theorem fp_X8_70_23 : jfp_ RX8 70 [23] 29 true true (.array (.array .int)) := by
  intro ci hc
  simp only [List.mem_cons, List.not_mem_nil, or_false] at hc
  subst hc
  exact ⟨RX8, TX8, 50, "TunedHousesModel", tyX8, so_le rfl, rfl, in_X8, so_le rfl, rfl, rfl, (Or.inl q1983), (fun _ _ _ _ g => g), tyX8_ok, nmX8, rfl, (by decide +kernel), fun _ => rfl⟩
theorem fp_X8_73_23 : jfp_ RX8 73 [23] 31 true true (.array .int) := by
  intro ci hc
  simp only [List.mem_cons, List.not_mem_nil, or_false] at hc
  subst hc
  exact ⟨RX8, TX8, 50, "TunedHousesModel", tyX8, so_le rfl, rfl, in_X8, so_le rfl, rfl, rfl, (Or.inl q1985), (fun _ _ _ _ g => g), tyX8_ok, nmX8, rfl, (by decide +kernel), fun _ => rfl⟩
theorem fp_X8_76_23 : jfp_ RX8 76 [23] 32 true true (.array .int) := by
  intro ci hc
  simp only [List.mem_cons, List.not_mem_nil, or_false] at hc
  subst hc
  exact ⟨RX8, TX8, 50, "TunedHousesModel", tyX8, so_le rfl, rfl, in_X8, so_le rfl, rfl, rfl, (Or.inl q1986), (fun _ _ _ _ g => g), tyX8_ok, nmX8, rfl, (by decide +kernel), fun _ => rfl⟩
theorem fp_X8_79_23 : jfp_ RX8 79 [23] 33 true true (.array .int) := by
  intro ci hc
  simp only [List.mem_cons, List.not_mem_nil, or_false] at hc
  subst hc
  exact ⟨RX8, TX8, 50, "TunedHousesModel", tyX8, so_le rfl, rfl, in_X8, so_le rfl, rfl, rfl, (Or.inl q1987), (fun _ _ _ _ g => g), tyX8_ok, nmX8, rfl, (by decide +kernel), fun _ => rfl⟩
theorem fp_X8_82_23 : jfp_ RX8 82 [23] 34 true true (.array (.array .int)) := by
  intro ci hc
  simp only [List.mem_cons, List.not_mem_nil, or_false] at hc
  subst hc
  exact ⟨RX8, TX8, 50, "TunedHousesModel", tyX8, so_le rfl, rfl, in_X8, so_le rfl, rfl, rfl, (Or.inl q1988), (fun _ _ _ _ g => g), tyX8_ok, nmX8, rfl, (by decide +kernel), fun _ => rfl⟩
theorem fp_X8_85_23 : jfp_ RX8 85 [23] 35 true true (.array (.array .int)) := by
  intro ci hc
  simp only [List.mem_cons, List.not_mem_nil, or_false] at hc
  subst hc
  exact ⟨RX8, TX8, 50, "TunedHousesModel", tyX8, so_le rfl, rfl, in_X8, so_le rfl, rfl, rfl, (Or.inl q1989), (fun _ _ _ _ g => g), tyX8_ok, nmX8, rfl, (by decide +kernel), fun _ => rfl⟩
theorem fp_X8_88_23 : jfp_ RX8 88 [23] 43 true true (.array .int) := by
  intro ci hc
  simp only [List.mem_cons, List.not_mem_nil, or_false] at hc
  subst hc
  exact ⟨RX8, TX8, 50, "TunedHousesModel", tyX8, so_le rfl, rfl, in_X8, so_le rfl, rfl, rfl, (Or.inl q1997), (fun _ _ _ _ g => g), tyX8_ok, nmX8, rfl, (by decide +kernel), fun _ => rfl⟩
theorem fp_X8_91_23 : jfp_ RX8 91 [23] 45 true true (.array .int) := by
  intro ci hc
  simp only [List.mem_cons, List.not_mem_nil, or_false] at hc
  subst hc
  exact ⟨RX8, TX8, 50, "TunedHousesModel", tyX8, so_le rfl, rfl, in_X8, so_le rfl, rfl, rfl, (Or.inl q1999), (fun _ _ _ _ g => g), tyX8_ok, nmX8, rfl, (by decide +kernel), fun _ => rfl⟩
theorem fp_X8_94_23 : jfp_ RX8 94 [23] 46 true true (.array (.array .int)) := by
  intro ci hc
  simp only [List.mem_cons, List.not_mem_nil, or_false] at hc
  subst hc
  exact ⟨RX8, TX8, 50, "TunedHousesModel", tyX8, so_le rfl, rfl, in_X8, so_le rfl, rfl, rfl, (Or.inl q2000), (fun _ _ _ _ g => g), tyX8_ok, nmX8, rfl, (by decide +kernel), fun _ => rfl⟩
theorem fp_X8_97_23 : jfp_ RX8 97 [23] 47 true true (.array .int) := by
  intro ci hc
  simp only [List.mem_cons, List.not_mem_nil, or_false] at hc
  subst hc
  exact ⟨RX8, TX8, 50, "TunedHousesModel", tyX8, so_le rfl, rfl, in_X8, so_le rfl, rfl, rfl, (Or.inl q2001), (fun _ _ _ _ g => g), tyX8_ok, nmX8, rfl, (by decide +kernel), fun _ => rfl⟩
theorem fl_X8_106_23 : jf_ RX8 106 [23] 0 false := by
  intro ci hc
  simp only [List.mem_cons, List.not_mem_nil, or_false] at hc
  subst hc
  exact ⟨RX8, TX8, 50, "TunedHousesModel", so_le rfl, rfl, in_X8, so_le rfl, rfl, rfl, (Or.inl q1954), (fun _ _ _ _ g => g)⟩
theorem fp_X8_106_23 : jfp_ RX8 106 [23] 0 false false .int := by
  intro ci hc
  simp only [List.mem_cons, List.not_mem_nil, or_false] at hc
  subst hc
  exact ⟨RX8, TX8, 50, "TunedHousesModel", tyX8, so_le rfl, rfl, in_X8, so_le rfl, rfl, rfl, (Or.inl q1954), (fun _ _ _ _ g => g), tyX8_ok, nmX8, rfl, (by decide +kernel), fun h => by cases h⟩
theorem fl_X8_109_23 : jf_ RX8 109 [23] 1 false := by
  intro ci hc
  simp only [List.mem_cons, List.not_mem_nil, or_false] at hc
  subst hc
  exact ⟨RX8, TX8, 50, "TunedHousesModel", so_le rfl, rfl, in_X8, so_le rfl, rfl, rfl, (Or.inl q1955), (fun _ _ _ _ g => g)⟩
theorem fl_X8_13_23 : jf_ RX8 13 [23] 9 true := by
  intro ci hc
  simp only [List.mem_cons, List.not_mem_nil, or_false] at hc
  subst hc
  exact ⟨RX8, TX8, 50, "TunedHousesModel", so_le rfl, rfl, in_X8, so_le rfl, rfl, rfl, (Or.inl q1963), (fun _ _ _ _ g => g)⟩
theorem fp_X8_109_23 : jfp_ RX8 109 [23] 1 false false .int := by
  intro ci hc
  simp only [List.mem_cons, List.not_mem_nil, or_false] at hc
  subst hc
  exact ⟨RX8, TX8, 50, "TunedHousesModel", tyX8, so_le rfl, rfl, in_X8, so_le rfl, rfl, rfl, (Or.inl q1955), (fun _ _ _ _ g => g), tyX8_ok, nmX8, rfl, (by decide +kernel), fun h => by cases h⟩
theorem fl_X8_17_23 : jf_ RX8 17 [23] 10 true := by
  intro ci hc
  simp only [List.mem_cons, List.not_mem_nil, or_false] at hc
  subst hc
  exact ⟨RX8, TX8, 50, "TunedHousesModel", so_le rfl, rfl, in_X8, so_le rfl, rfl, rfl, (Or.inl q1964), (fun _ _ _ _ g => g)⟩
theorem fl_X8_112_23 : jf_ RX8 112 [23] 2 false := by
  intro ci hc
  simp only [List.mem_cons, List.not_mem_nil, or_false] at hc
  subst hc
  exact ⟨RX8, TX8, 50, "TunedHousesModel", so_le rfl, rfl, in_X8, so_le rfl, rfl, rfl, (Or.inl q1956), (fun _ _ _ _ g => g)⟩
theorem fl_X8_115_23 : jf_ RX8 115 [23] 4 false := by
  intro ci hc
  simp only [List.mem_cons, List.not_mem_nil, or_false] at hc
  subst hc
  exact ⟨RX8, TX8, 50, "TunedHousesModel", so_le rfl, rfl, in_X8, so_le rfl, rfl, rfl, (Or.inl q1958), (fun _ _ _ _ g => g)⟩
theorem fp_X8_115_23 : jfp_ RX8 115 [23] 4 false false .int := by
  intro ci hc
  simp only [List.mem_cons, List.not_mem_nil, or_false] at hc
  subst hc
  exact ⟨RX8, TX8, 50, "TunedHousesModel", tyX8, so_le rfl, rfl, in_X8, so_le rfl, rfl, rfl, (Or.inl q1958), (fun _ _ _ _ g => g), tyX8_ok, nmX8, rfl, (by decide +kernel), fun h => by cases h⟩
theorem fp_X8_112_23 : jfp_ RX8 112 [23] 2 false false .int := by
  intro ci hc
  simp only [List.mem_cons, List.not_mem_nil, or_false] at hc
  subst hc
  exact ⟨RX8, TX8, 50, "TunedHousesModel", tyX8, so_le rfl, rfl, in_X8, so_le rfl, rfl, rfl, (Or.inl q1956), (fun _ _ _ _ g => g), tyX8_ok, nmX8, rfl, (by decide +kernel), fun h => by cases h⟩
theorem fp_X8_122_23 : jfp_ RX8 122 [23] 5 false false .int := by
  intro ci hc
  simp only [List.mem_cons, List.not_mem_nil, or_false] at hc
  subst hc
  exact ⟨RX8, TX8, 50, "TunedHousesModel", tyX8, so_le rfl, rfl, in_X8, so_le rfl, rfl, rfl, (Or.inl q1959), (fun _ _ _ _ g => g), tyX8_ok, nmX8, rfl, (by decide +kernel), fun h => by cases h⟩
theorem fp_X8_125_23 : jfp_ RX8 125 [23] 6 false false .int := by
  intro ci hc
  simp only [List.mem_cons, List.not_mem_nil, or_false] at hc
  subst hc
  exact ⟨RX8, TX8, 50, "TunedHousesModel", tyX8, so_le rfl, rfl, in_X8, so_le rfl, rfl, rfl, (Or.inl q1960), (fun _ _ _ _ g => g), tyX8_ok, nmX8, rfl, (by decide +kernel), fun h => by cases h⟩
theorem fp_X8_162_23 : jfp_ RX8 162 [23] 7 false false .int := by
  intro ci hc
  simp only [List.mem_cons, List.not_mem_nil, or_false] at hc
  subst hc
  exact ⟨RX8, TX8, 50, "TunedHousesModel", tyX8, so_le rfl, rfl, in_X8, so_le rfl, rfl, rfl, (Or.inl q1961), (fun _ _ _ _ g => g), tyX8_ok, nmX8, rfl, (by decide +kernel), fun h => by cases h⟩
theorem fp_X8_165_23 : jfp_ RX8 165 [23] 8 false false .int := by
  intro ci hc
  simp only [List.mem_cons, List.not_mem_nil, or_false] at hc
  subst hc
  exact ⟨RX8, TX8, 50, "TunedHousesModel", tyX8, so_le rfl, rfl, in_X8, so_le rfl, rfl, rfl, (Or.inl q1962), (fun _ _ _ _ g => g), tyX8_ok, nmX8, rfl, (by decide +kernel), fun h => by cases h⟩
theorem fl_X8_122_23 : jf_ RX8 122 [23] 5 false := by
  intro ci hc
  simp only [List.mem_cons, List.not_mem_nil, or_false] at hc
  subst hc
  exact ⟨RX8, TX8, 50, "TunedHousesModel", so_le rfl, rfl, in_X8, so_le rfl, rfl, rfl, (Or.inl q1959), (fun _ _ _ _ g => g)⟩
theorem fl_X8_162_23 : jf_ RX8 162 [23] 7 false := by
  intro ci hc
  simp only [List.mem_cons, List.not_mem_nil, or_false] at hc
  subst hc
  exact ⟨RX8, TX8, 50, "TunedHousesModel", so_le rfl, rfl, in_X8, so_le rfl, rfl, rfl, (Or.inl q1961), (fun _ _ _ _ g => g)⟩
theorem fl_X8_125_23 : jf_ RX8 125 [23] 6 false := by
  intro ci hc
  simp only [List.mem_cons, List.not_mem_nil, or_false] at hc
  subst hc
  exact ⟨RX8, TX8, 50, "TunedHousesModel", so_le rfl, rfl, in_X8, so_le rfl, rfl, rfl, (Or.inl q1960), (fun _ _ _ _ g => g)⟩
theorem fl_X8_165_23 : jf_ RX8 165 [23] 8 false := by
  intro ci hc
  simp only [List.mem_cons, List.not_mem_nil, or_false] at hc
  subst hc
  exact ⟨RX8, TX8, 50, "TunedHousesModel", so_le rfl, rfl, in_X8, so_le rfl, rfl, rfl, (Or.inl q1962), (fun _ _ _ _ g => g)⟩
theorem fl_X8_55_23 : jf_ RX8 55 [23] 24 true := by
  intro ci hc
  simp only [List.mem_cons, List.not_mem_nil, or_false] at hc
  subst hc
  exact ⟨RX8, TX8, 50, "TunedHousesModel", so_le rfl, rfl, in_X8, so_le rfl, rfl, rfl, (Or.inl q1978), (fun _ _ _ _ g => g)⟩
theorem fl_X8_221_23 : jf_ RX8 221 [23] 22 false := by
  intro ci hc
  simp only [List.mem_cons, List.not_mem_nil, or_false] at hc
  subst hc
  exact ⟨RX8, TX8, 50, "TunedHousesModel", so_le rfl, rfl, in_X8, so_le rfl, rfl, rfl, (Or.inl q1976), (fun _ _ _ _ g => g)⟩
theorem fp_X8_221_23 : jfp_ RX8 221 [23] 22 false false .int := by
  intro ci hc
  simp only [List.mem_cons, List.not_mem_nil, or_false] at hc
  subst hc
  exact ⟨RX8, TX8, 50, "TunedHousesModel", tyX8, so_le rfl, rfl, in_X8, so_le rfl, rfl, rfl, (Or.inl q1976), (fun _ _ _ _ g => g), tyX8_ok, nmX8, rfl, (by decide +kernel), fun h => by cases h⟩
theorem fl_X8_52_23 : jf_ RX8 52 [23] 23 true := by
  intro ci hc
  simp only [List.mem_cons, List.not_mem_nil, or_false] at hc
  subst hc
  exact ⟨RX8, TX8, 50, "TunedHousesModel", so_le rfl, rfl, in_X8, so_le rfl, rfl, rfl, (Or.inl q1977), (fun _ _ _ _ g => g)⟩
theorem fl_X8_206_23 : jf_ RX8 206 [23] 21 false := by
  intro ci hc
  simp only [List.mem_cons, List.not_mem_nil, or_false] at hc
  subst hc
  exact ⟨RX8, TX8, 50, "TunedHousesModel", so_le rfl, rfl, in_X8, so_le rfl, rfl, rfl, (Or.inl q1975), (fun _ _ _ _ g => g)⟩
theorem fl_X8_61_23 : jf_ RX8 61 [23] 26 true := by
  intro ci hc
  simp only [List.mem_cons, List.not_mem_nil, or_false] at hc
  subst hc
  exact ⟨RX8, TX8, 50, "TunedHousesModel", so_le rfl, rfl, in_X8, so_le rfl, rfl, rfl, (Or.inl q1980), (fun _ _ _ _ g => g)⟩
theorem fl_X8_58_23 : jf_ RX8 58 [23] 25 true := by
  intro ci hc
  simp only [List.mem_cons, List.not_mem_nil, or_false] at hc
  subst hc
  exact ⟨RX8, TX8, 50, "TunedHousesModel", so_le rfl, rfl, in_X8, so_le rfl, rfl, rfl, (Or.inl q1979), (fun _ _ _ _ g => g)⟩
theorem fl_X8_9_23 : jf_ RX8 9 [23] 3 false := by
  intro ci hc
  simp only [List.mem_cons, List.not_mem_nil, or_false] at hc
  subst hc
  exact ⟨RX8, TX8, 50, "TunedHousesModel", so_le rfl, rfl, in_X8, so_le rfl, rfl, rfl, (Or.inl q1957), (fun _ _ _ _ g => g)⟩
theorem fl_X8_70_23 : jf_ RX8 70 [23] 29 true := by
  intro ci hc
  simp only [List.mem_cons, List.not_mem_nil, or_false] at hc
  subst hc
  exact ⟨RX8, TX8, 50, "TunedHousesModel", so_le rfl, rfl, in_X8, so_le rfl, rfl, rfl, (Or.inl q1983), (fun _ _ _ _ g => g)⟩
theorem fl_X8_262_23 : jf_ RX8 262 [23] 30 false := by
  intro ci hc
  simp only [List.mem_cons, List.not_mem_nil, or_false] at hc
  subst hc
  exact ⟨RX8, TX8, 50, "TunedHousesModel", so_le rfl, rfl, in_X8, so_le rfl, rfl, rfl, (Or.inl q1984), (fun _ _ _ _ g => g)⟩
theorem fp_X8_262_23 : jfp_ RX8 262 [23] 30 false false .int := by
  intro ci hc
  simp only [List.mem_cons, List.not_mem_nil, or_false] at hc
  subst hc
  exact ⟨RX8, TX8, 50, "TunedHousesModel", tyX8, so_le rfl, rfl, in_X8, so_le rfl, rfl, rfl, (Or.inl q1984), (fun _ _ _ _ g => g), tyX8_ok, nmX8, rfl, (by decide +kernel), fun h => by cases h⟩
theorem fl_X8_64_23 : jf_ RX8 64 [23] 27 true := by
  intro ci hc
  simp only [List.mem_cons, List.not_mem_nil, or_false] at hc
  subst hc
  exact ⟨RX8, TX8, 50, "TunedHousesModel", so_le rfl, rfl, in_X8, so_le rfl, rfl, rfl, (Or.inl q1981), (fun _ _ _ _ g => g)⟩
theorem fl_X8_67_23 : jf_ RX8 67 [23] 28 true := by
  intro ci hc
  simp only [List.mem_cons, List.not_mem_nil, or_false] at hc
  subst hc
  exact ⟨RX8, TX8, 50, "TunedHousesModel", so_le rfl, rfl, in_X8, so_le rfl, rfl, rfl, (Or.inl q1982), (fun _ _ _ _ g => g)⟩
theorem fl_X8_79_23 : jf_ RX8 79 [23] 33 true := by
  intro ci hc
  simp only [List.mem_cons, List.not_mem_nil, or_false] at hc
  subst hc
  exact ⟨RX8, TX8, 50, "TunedHousesModel", so_le rfl, rfl, in_X8, so_le rfl, rfl, rfl, (Or.inl q1987), (fun _ _ _ _ g => g)⟩
theorem fl_X8_306_23 : jf_ RX8 306 [23] 41 false := by
  intro ci hc
  simp only [List.mem_cons, List.not_mem_nil, or_false] at hc
  subst hc
  exact ⟨RX8, TX8, 50, "TunedHousesModel", so_le rfl, rfl, in_X8, so_le rfl, rfl, rfl, (Or.inl q1995), (fun _ _ _ _ g => g)⟩
theorem fp_X8_306_23 : jfp_ RX8 306 [23] 41 false false .int := by
  intro ci hc
  simp only [List.mem_cons, List.not_mem_nil, or_false] at hc
  subst hc
  exact ⟨RX8, TX8, 50, "TunedHousesModel", tyX8, so_le rfl, rfl, in_X8, so_le rfl, rfl, rfl, (Or.inl q1995), (fun _ _ _ _ g => g), tyX8_ok, nmX8, rfl, (by decide +kernel), fun h => by cases h⟩
theorem fl_X8_316_23 : jf_ RX8 316 [23] 42 false := by
  intro ci hc
  simp only [List.mem_cons, List.not_mem_nil, or_false] at hc
  subst hc
  exact ⟨RX8, TX8, 50, "TunedHousesModel", so_le rfl, rfl, in_X8, so_le rfl, rfl, rfl, (Or.inl q1996), (fun _ _ _ _ g => g)⟩
theorem fp_X8_316_23 : jfp_ RX8 316 [23] 42 false false .int := by
  intro ci hc
  simp only [List.mem_cons, List.not_mem_nil, or_false] at hc
  subst hc
  exact ⟨RX8, TX8, 50, "TunedHousesModel", tyX8, so_le rfl, rfl, in_X8, so_le rfl, rfl, rfl, (Or.inl q1996), (fun _ _ _ _ g => g), tyX8_ok, nmX8, rfl, (by decide +kernel), fun h => by cases h⟩
theorem fl_X8_215_23 : jf_ RX8 215 [23] 38 false := by
  intro ci hc
  simp only [List.mem_cons, List.not_mem_nil, or_false] at hc
  subst hc
  exact ⟨RX8, TX8, 50, "TunedHousesModel", so_le rfl, rfl, in_X8, so_le rfl, rfl, rfl, (Or.inl q1992), (fun _ _ _ _ g => g)⟩
theorem fl_X8_212_23 : jf_ RX8 212 [23] 37 false := by
  intro ci hc
  simp only [List.mem_cons, List.not_mem_nil, or_false] at hc
  subst hc
  exact ⟨RX8, TX8, 50, "TunedHousesModel", so_le rfl, rfl, in_X8, so_le rfl, rfl, rfl, (Or.inl q1991), (fun _ _ _ _ g => g)⟩
theorem fl_X8_82_23 : jf_ RX8 82 [23] 34 true := by
  intro ci hc
  simp only [List.mem_cons, List.not_mem_nil, or_false] at hc
  subst hc
  exact ⟨RX8, TX8, 50, "TunedHousesModel", so_le rfl, rfl, in_X8, so_le rfl, rfl, rfl, (Or.inl q1988), (fun _ _ _ _ g => g)⟩
theorem fl_X8_209_23 : jf_ RX8 209 [23] 36 false := by
  intro ci hc
  simp only [List.mem_cons, List.not_mem_nil, or_false] at hc
  subst hc
  exact ⟨RX8, TX8, 50, "TunedHousesModel", so_le rfl, rfl, in_X8, so_le rfl, rfl, rfl, (Or.inl q1990), (fun _ _ _ _ g => g)⟩
theorem fl_X8_76_23 : jf_ RX8 76 [23] 32 true := by
  intro ci hc
  simp only [List.mem_cons, List.not_mem_nil, or_false] at hc
  subst hc
  exact ⟨RX8, TX8, 50, "TunedHousesModel", so_le rfl, rfl, in_X8, so_le rfl, rfl, rfl, (Or.inl q1986), (fun _ _ _ _ g => g)⟩
theorem fl_X8_348_23 : jf_ RX8 348 [23] 44 false := by
  intro ci hc
  simp only [List.mem_cons, List.not_mem_nil, or_false] at hc
  subst hc
  exact ⟨RX8, TX8, 50, "TunedHousesModel", so_le rfl, rfl, in_X8, so_le rfl, rfl, rfl, (Or.inl q1998), (fun _ _ _ _ g => g)⟩
theorem fp_X8_348_23 : jfp_ RX8 348 [23] 44 false false .int := by
  intro ci hc
  simp only [List.mem_cons, List.not_mem_nil, or_false] at hc
  subst hc
  exact ⟨RX8, TX8, 50, "TunedHousesModel", tyX8, so_le rfl, rfl, in_X8, so_le rfl, rfl, rfl, (Or.inl q1998), (fun _ _ _ _ g => g), tyX8_ok, nmX8, rfl, (by decide +kernel), fun h => by cases h⟩
theorem fl_X8_88_23 : jf_ RX8 88 [23] 43 true := by
  intro ci hc
  simp only [List.mem_cons, List.not_mem_nil, or_false] at hc
  subst hc
  exact ⟨RX8, TX8, 50, "TunedHousesModel", so_le rfl, rfl, in_X8, so_le rfl, rfl, rfl, (Or.inl q1997), (fun _ _ _ _ g => g)⟩
theorem fl_X8_91_23 : jf_ RX8 91 [23] 45 true := by
  intro ci hc
  simp only [List.mem_cons, List.not_mem_nil, or_false] at hc
  subst hc
  exact ⟨RX8, TX8, 50, "TunedHousesModel", so_le rfl, rfl, in_X8, so_le rfl, rfl, rfl, (Or.inl q1999), (fun _ _ _ _ g => g)⟩
theorem fl_X8_94_23 : jf_ RX8 94 [23] 46 true := by
  intro ci hc
  simp only [List.mem_cons, List.not_mem_nil, or_false] at hc
  subst hc
  exact ⟨RX8, TX8, 50, "TunedHousesModel", so_le rfl, rfl, in_X8, so_le rfl, rfl, rfl, (Or.inl q2000), (fun _ _ _ _ g => g)⟩
theorem fl_X8_97_23 : jf_ RX8 97 [23] 47 true := by
  intro ci hc
  simp only [List.mem_cons, List.not_mem_nil, or_false] at hc
  subst hc
  exact ⟨RX8, TX8, 50, "TunedHousesModel", so_le rfl, rfl, in_X8, so_le rfl, rfl, rfl, (Or.inl q2001), (fun _ _ _ _ g => g)⟩
theorem fl_X8_386_23 : jf_ RX8 386 [23] 48 false := by
  intro ci hc
  simp only [List.mem_cons, List.not_mem_nil, or_false] at hc
  subst hc
  exact ⟨RX8, TX8, 50, "TunedHousesModel", so_le rfl, rfl, in_X8, so_le rfl, rfl, rfl, (Or.inl q2002), (fun _ _ _ _ g => g)⟩
theorem fp_X8_386_23 : jfp_ RX8 386 [23] 48 false false .int := by
  intro ci hc
  simp only [List.mem_cons, List.not_mem_nil, or_false] at hc
  subst hc
  exact ⟨RX8, TX8, 50, "TunedHousesModel", tyX8, so_le rfl, rfl, in_X8, so_le rfl, rfl, rfl, (Or.inl q2002), (fun _ _ _ _ g => g), tyX8_ok, nmX8, rfl, (by decide +kernel), fun h => by cases h⟩
theorem fp_X8_390_23 : jfp_ RX8 390 [23] 49 false false .int := by
  intro ci hc
  simp only [List.mem_cons, List.not_mem_nil, or_false] at hc
  subst hc
  exact ⟨RX8, TX8, 50, "TunedHousesModel", tyX8, so_le rfl, rfl, in_X8, so_le rfl, rfl, rfl, (Or.inl q2003), (fun _ _ _ _ g => g), tyX8_ok, nmX8, rfl, (by decide +kernel), fun h => by cases h⟩
theorem fl_X8_390_23 : jf_ RX8 390 [23] 49 false := by
  intro ci hc
  simp only [List.mem_cons, List.not_mem_nil, or_false] at hc
  subst hc
  exact ⟨RX8, TX8, 50, "TunedHousesModel", so_le rfl, rfl, in_X8, so_le rfl, rfl, rfl, (Or.inl q2003), (fun _ _ _ _ g => g)⟩
theorem fl_X8_402_23 : jf_ RX8 402 [23] 40 false := by
  intro ci hc
  simp only [List.mem_cons, List.not_mem_nil, or_false] at hc
  subst hc
  exact ⟨RX8, TX8, 50, "TunedHousesModel", so_le rfl, rfl, in_X8, so_le rfl, rfl, rfl, (Or.inl q1994), (fun _ _ _ _ g => g)⟩
theorem fp_X8_402_23 : jfp_ RX8 402 [23] 40 false false .int := by
  intro ci hc
  simp only [List.mem_cons, List.not_mem_nil, or_false] at hc
  subst hc
  exact ⟨RX8, TX8, 50, "TunedHousesModel", tyX8, so_le rfl, rfl, in_X8, so_le rfl, rfl, rfl, (Or.inl q1994), (fun _ _ _ _ g => g), tyX8_ok, nmX8, rfl, (by decide +kernel), fun h => by cases h⟩
theorem fl_X8_218_23 : jf_ RX8 218 [23] 39 false := by
  intro ci hc
  simp only [List.mem_cons, List.not_mem_nil, or_false] at hc
  subst hc
  exact ⟨RX8, TX8, 50, "TunedHousesModel", so_le rfl, rfl, in_X8, so_le rfl, rfl, rfl, (Or.inl q1993), (fun _ _ _ _ g => g)⟩
theorem fl_X8_85_23 : jf_ RX8 85 [23] 35 true := by
  intro ci hc
  simp only [List.mem_cons, List.not_mem_nil, or_false] at hc
  subst hc
  exact ⟨RX8, TX8, 50, "TunedHousesModel", so_le rfl, rfl, in_X8, so_le rfl, rfl, rfl, (Or.inl q1989), (fun _ _ _ _ g => g)⟩
