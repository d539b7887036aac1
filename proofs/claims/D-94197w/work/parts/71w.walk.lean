set_option maxRecDepth 100000
theorem gf_X12_15 : jGet "MoveNotes$Kind" 15 12 1 := jg_own in_X12 rfl (by decide) q1079 rfl
theorem gf_X13_7 : jGet "MoveNotes$Straight" 7 13 0 := jg_own in_X13 rfl (by decide) q927 rfl
theorem gf_X14_7 : jGet "MoveNotes$Slant" 7 14 0 := jg_own in_X14 rfl (by decide) q938 rfl
theorem gf_X15_7 : jGet "MoveNotes$Ahead" 7 15 0 := jg_own in_X15 rfl (by decide) q949 rfl
theorem gf_X18_7 : jGet "MoveNotes$Tag" 7 18 0 := jg_own in_X18 rfl (by decide) q988 rfl
theorem gf_X19_15 : jGet "MoveNotes$Sum" 15 19 1 := jg_own in_X19 rfl (by decide) q1005 rfl
theorem gf_X19_9 : jGet "MoveNotes$Sum" 9 19 0 := jg_own in_X19 rfl (by decide) q1003 rfl
theorem gf_X23_15 : jGet "MoveNotes$Note" 15 23 1 := jg_own in_X23 rfl (by decide) q1257 rfl
theorem gf_X23_18 : jGet "MoveNotes$Note" 18 23 2 := jg_own in_X23 rfl (by decide) q1259 rfl
theorem gf_X23_21 : jGet "MoveNotes$Note" 21 23 3 := jg_own in_X23 rfl (by decide) q1261 rfl
theorem gf_X23_9 : jGet "MoveNotes$Note" 9 23 0 := jg_own in_X23 rfl (by decide) q1255 rfl
theorem gf_X24_15 : jGet "MoveNotes$Picture" 15 24 1 := jg_own in_X24 rfl (by decide) q1351 rfl
theorem gf_X24_18 : jGet "MoveNotes$Picture" 18 24 2 := jg_own in_X24 rfl (by decide) q1352 rfl
theorem gf_X24_21 : jGet "MoveNotes$Picture" 21 24 3 := jg_own in_X24 rfl (by decide) q1353 rfl
theorem gf_X24_24 : jGet "MoveNotes$Picture" 24 8 0 := jg_nest in_X8 rfl (by decide) q303 rfl
theorem gf_X24_29 : jGet "MoveNotes$Picture" 29 8 1 := jg_nest in_X8 rfl (by decide) q311 rfl
theorem gf_X3_15 : jGet "MoveNotes$Going" 15 8 1 := jg_nest in_X8 rfl (by decide) q314 rfl
theorem gf_X3_9 : jGet "MoveNotes$Going" 9 8 0 := jg_nest in_X8 rfl (by decide) q307 rfl
theorem gf_X4_15 : jGet "MoveNotes$Leap" 15 8 0 := jg_nest in_X8 rfl (by decide) q305 rfl
theorem gf_X4_21 : jGet "MoveNotes$Leap" 21 8 1 := jg_nest in_X8 rfl (by decide) q312 rfl
theorem gf_X5_15 : jGet "MoveNotes$Bite" 15 8 1 := jg_nest in_X8 rfl (by decide) q313 rfl
theorem gf_X5_9 : jGet "MoveNotes$Bite" 9 8 0 := jg_nest in_X8 rfl (by decide) q306 rfl
theorem gf_X7_11 : jGet "MoveNotes$State" 11 7 0 := jg_own in_X7 rfl (by decide) q349 rfl
theorem gf_X7_20 : jGet "MoveNotes$State" 20 7 1 := jg_own in_X7 rfl (by decide) q352 rfl
theorem gf_X7_26 : jGet "MoveNotes$State" 26 7 2 := jg_own in_X7 rfl (by decide) q355 rfl
theorem gf_X7_32 : jGet "MoveNotes$State" 32 7 3 := jg_own in_X7 rfl (by decide) q358 rfl
theorem gf_X7_36 : jGet "MoveNotes$State" 36 7 4 := jg_own in_X7 rfl (by decide) q361 rfl
theorem gf_X7_40 : jGet "MoveNotes$State" 40 7 9 := jg_own in_X7 rfl (by decide) q375 rfl
theorem gf_X7_58 : jGet "MoveNotes$State" 58 7 5 := jg_own in_X7 rfl (by decide) q364 rfl
theorem gf_X7_62 : jGet "MoveNotes$State" 62 7 6 := jg_own in_X7 rfl (by decide) q367 rfl
theorem gf_X7_65 : jGet "MoveNotes$State" 65 7 7 := jg_own in_X7 rfl (by decide) q369 rfl
theorem gf_X7_68 : jGet "MoveNotes$State" 68 7 8 := jg_own in_X7 rfl (by decide) q372 rfl
theorem gf_X8_15 : jGet "MoveNotes$Board" 15 8 1 := jg_own in_X8 rfl (by decide) q309 rfl
theorem gf_X8_9 : jGet "MoveNotes$Board" 9 8 0 := jg_own in_X8 rfl (by decide) q302 rfl
theorem gf_X9_11 : jGet "MoveNotes$Book" 11 9 0 := jg_own in_X9 rfl (by decide) q333 rfl
theorem gf_X9_23 : jGet "MoveNotes$Book" 23 9 1 := jg_own in_X9 rfl (by decide) q336 rfl
theorem gf_X9_27 : jGet "MoveNotes$Book" 27 9 2 := jg_own in_X9 rfl (by decide) q339 rfl
theorem pf_J0_17 {mn : String} : jPut "java/lang/Throwable" mn 17 6 1 (.array (.object "java/lang/StackTraceElement")) := jp_own in_X6 rfl (by decide) tyX6_ok nmX6 q241 rfl rfl rfl
theorem pf_J0_24 {mn : String} : jPut "java/lang/Throwable" mn 24 6 2 (.object "java/util/List") := jp_own in_X6 rfl (by decide) tyX6_ok nmX6 q242 rfl rfl rfl
theorem pf_J0_31 {mn : String} : jPut "java/lang/Throwable" mn 31 6 3 (.object "java/lang/String") := jp_own in_X6 rfl (by decide) tyX6_ok nmX6 q239 rfl rfl rfl
theorem pf_J0_7 {mn : String} : jPut "java/lang/Throwable" mn 7 6 0 (.object "java/lang/Throwable") := jp_own in_X6 rfl (by decide) tyX6_ok nmX6 q240 rfl rfl rfl
theorem pf_X12_15 {mn : String} (h : mn = "<init>") : jPut "MoveNotes$Kind" mn 15 12 1 (.array (.object "MoveNotes$Going")) := jp_fin in_X12 rfl (by decide) tyX12_ok nmX12 q1079 rfl rfl rfl h rfl
theorem pf_X12_7 {mn : String} (h : mn = "<init>") : jPut "MoveNotes$Kind" mn 7 12 0 .int := jp_fin in_X12 rfl (by decide) tyX12_ok nmX12 q1076 rfl rfl rfl h rfl
theorem pf_X13_7 {mn : String} (h : mn = "<init>") : jPut "MoveNotes$Straight" mn 7 13 0 .int := jp_fin in_X13 rfl (by decide) tyX13_ok nmX13 q927 rfl rfl rfl h rfl
theorem pf_X14_7 {mn : String} (h : mn = "<init>") : jPut "MoveNotes$Slant" mn 7 14 0 .int := jp_fin in_X14 rfl (by decide) tyX14_ok nmX14 q938 rfl rfl rfl h rfl
theorem pf_X15_7 {mn : String} (h : mn = "<init>") : jPut "MoveNotes$Ahead" mn 7 15 0 .int := jp_fin in_X15 rfl (by decide) tyX15_ok nmX15 q949 rfl rfl rfl h rfl
theorem pf_X18_7 {mn : String} (h : mn = "<init>") : jPut "MoveNotes$Tag" mn 7 18 0 .int := jp_fin in_X18 rfl (by decide) tyX18_ok nmX18 q988 rfl rfl rfl h rfl
theorem pf_X19_9 {mn : String} (h : mn = "<init>") : jPut "MoveNotes$Sum" mn 9 19 0 (.array .int) := jp_fin in_X19 rfl (by decide) tyX19_ok nmX19 q1003 rfl rfl rfl h rfl
theorem pf_X23_15 {mn : String} (h : mn = "<init>") : jPut "MoveNotes$Note" mn 15 23 1 .int := jp_fin in_X23 rfl (by decide) tyX23_ok nmX23 q1257 rfl rfl rfl h rfl
theorem pf_X23_18 {mn : String} (h : mn = "<init>") : jPut "MoveNotes$Note" mn 18 23 2 .int := jp_fin in_X23 rfl (by decide) tyX23_ok nmX23 q1259 rfl rfl rfl h rfl
theorem pf_X23_21 {mn : String} (h : mn = "<init>") : jPut "MoveNotes$Note" mn 21 23 3 .int := jp_fin in_X23 rfl (by decide) tyX23_ok nmX23 q1261 rfl rfl rfl h rfl
theorem pf_X23_9 {mn : String} (h : mn = "<init>") : jPut "MoveNotes$Note" mn 9 23 0 .int := jp_fin in_X23 rfl (by decide) tyX23_ok nmX23 q1255 rfl rfl rfl h rfl
theorem pf_X24_15 {mn : String} (h : mn = "<init>") : jPut "MoveNotes$Picture" mn 15 24 1 .int := jp_fin in_X24 rfl (by decide) tyX24_ok nmX24 q1351 rfl rfl rfl h rfl
theorem pf_X24_18 {mn : String} (h : mn = "<init>") : jPut "MoveNotes$Picture" mn 18 24 2 .int := jp_fin in_X24 rfl (by decide) tyX24_ok nmX24 q1352 rfl rfl rfl h rfl
theorem pf_X24_21 {mn : String} (h : mn = "<init>") : jPut "MoveNotes$Picture" mn 21 24 3 .int := jp_fin in_X24 rfl (by decide) tyX24_ok nmX24 q1353 rfl rfl rfl h rfl
theorem pf_X24_9 {mn : String} (h : mn = "<init>") : jPut "MoveNotes$Picture" mn 9 24 0 .int := jp_fin in_X24 rfl (by decide) tyX24_ok nmX24 q1349 rfl rfl rfl h rfl
theorem pf_X7_11 {mn : String} (h : mn = "<init>") : jPut "MoveNotes$State" mn 11 7 0 (.array (.object "MoveNotes$Kind")) := jp_fin in_X7 rfl (by decide) tyX7_ok nmX7 q349 rfl rfl rfl h rfl
theorem pf_X7_20 {mn : String} (h : mn = "<init>") : jPut "MoveNotes$State" mn 20 7 1 (.object "MoveNotes$Board") := jp_fin in_X7 rfl (by decide) tyX7_ok nmX7 q352 rfl rfl rfl h rfl
theorem pf_X7_26 {mn : String} (h : mn = "<init>") : jPut "MoveNotes$State" mn 26 7 2 (.array (.object "MoveNotes$Book")) := jp_fin in_X7 rfl (by decide) tyX7_ok nmX7 q355 rfl rfl rfl h rfl
theorem pf_X7_32 {mn : String} (h : mn = "<init>") : jPut "MoveNotes$State" mn 32 7 3 (.array (.object "MoveNotes$Picture")) := jp_fin in_X7 rfl (by decide) tyX7_ok nmX7 q358 rfl rfl rfl h rfl
theorem pf_X7_36 {mn : String} (h : mn = "<init>") : jPut "MoveNotes$State" mn 36 7 4 (.array .int) := jp_fin in_X7 rfl (by decide) tyX7_ok nmX7 q361 rfl rfl rfl h rfl
theorem pf_X7_40 {mn : String} : jPut "MoveNotes$State" mn 40 7 9 .int := jp_own in_X7 rfl (by decide) tyX7_ok nmX7 q375 rfl rfl rfl
theorem pf_X7_58 {mn : String} : jPut "MoveNotes$State" mn 58 7 5 (.object "MoveNotes$Measure") := jp_own in_X7 rfl (by decide) tyX7_ok nmX7 q364 rfl rfl rfl
theorem pf_X7_62 {mn : String} : jPut "MoveNotes$State" mn 62 7 6 .int := jp_own in_X7 rfl (by decide) tyX7_ok nmX7 q367 rfl rfl rfl
theorem pf_X7_65 {mn : String} : jPut "MoveNotes$State" mn 65 7 7 .int := jp_own in_X7 rfl (by decide) tyX7_ok nmX7 q369 rfl rfl rfl
theorem pf_X7_68 {mn : String} : jPut "MoveNotes$State" mn 68 7 8 .int := jp_own in_X7 rfl (by decide) tyX7_ok nmX7 q372 rfl rfl rfl
theorem pf_X8_15 {mn : String} (h : mn = "<init>") : jPut "MoveNotes$Board" mn 15 8 1 (.array .int) := jp_fin in_X8 rfl (by decide) tyX8_ok nmX8 q309 rfl rfl rfl h rfl
theorem pf_X8_9 {mn : String} (h : mn = "<init>") : jPut "MoveNotes$Board" mn 9 8 0 (.array .int) := jp_fin in_X8 rfl (by decide) tyX8_ok nmX8 q302 rfl rfl rfl h rfl
theorem pf_X9_11 {mn : String} (h : mn = "<init>") : jPut "MoveNotes$Book" mn 11 9 0 (.array (.object "MoveNotes$Note")) := jp_fin in_X9 rfl (by decide) tyX9_ok nmX9 q333 rfl rfl rfl h rfl
theorem pf_X9_23 {mn : String} : jPut "MoveNotes$Book" mn 23 9 1 .int := jp_own in_X9 rfl (by decide) tyX9_ok nmX9 q336 rfl rfl rfl
theorem pf_X9_27 {mn : String} : jPut "MoveNotes$Book" mn 27 9 2 .int := jp_own in_X9 rfl (by decide) tyX9_ok nmX9 q339 rfl rfl rfl
theorem mtJ0_init_2 : jMt yJ0_init_2 cJ0_init_2 5 none 4 := ⟨by decide +kernel, q104, q235, by decide⟩
theorem mtJ1_init : jMt yJ1_init cJ1_init 5 none 4 := ⟨by decide +kernel, q105, q232, by decide⟩
theorem mtJ13_bitCount : jMt yJ13_bitCount cJ13_bitCount 1 (some .int) 1 := ⟨by decide +kernel, q137, q762, by decide⟩
theorem mtJ13_numberOfTrailingZeros : jMt yJ13_numberOfTrailingZeros cJ13_numberOfTrailingZeros 2 (some .int) 1 := ⟨by decide +kernel, q137, q768, by decide⟩
theorem mtJ2_init : jMt yJ2_init cJ2_init 5 none 4 := ⟨by decide +kernel, q106, q229, by decide⟩
theorem mtJ3_coder : jMt yJ3_coder cJ3_coder 1 (some .byte) 0 := ⟨by decide +kernel, q114, q876, by decide⟩
theorem mvJ3_coder : jMv yJ3_coder := ⟨q874, q875⟩
theorem mtJ3_length : jMt yJ3_length cJ3_length 1 (some .int) 0 := ⟨by decide +kernel, q114, q872, by decide⟩
theorem mvJ3_length : jMv yJ3_length := ⟨q870, q871⟩
theorem mtJ3_isLatin1 : jMt yJ3_isLatin1 cJ3_isLatin1 1 (some .boolean) 0 := ⟨by decide +kernel, q114, q886, by decide⟩
theorem mvJ3_isLatin1 : jMv yJ3_isLatin1 := ⟨q884, q885⟩
theorem mtJ5_checkIndex : jMt yJ5_checkIndex cJ5_checkIndex 3 (some .int) 3 := ⟨by decide +kernel, q116, q897, by decide⟩
theorem mtJ3_checkIndex : jMt yJ3_checkIndex cJ3_checkIndex 2 none 2 := ⟨by decide +kernel, q114, q892, by decide⟩
theorem mtJ4_charAt : jMt yJ4_charAt cJ4_charAt 2 (some .char) 2 := ⟨by decide +kernel, q115, q889, by decide⟩
theorem mtJ3_charAt : jMt yJ3_charAt cJ3_charAt 2 (some .char) 1 := ⟨by decide +kernel, q114, q882, by decide⟩
theorem mvJ3_charAt : jMv yJ3_charAt := ⟨q880, q881⟩
theorem mtX3_init : jMt yX3_init cX3_init 1 none 0 := ⟨by decide +kernel, q101, q169, by decide⟩
theorem mtX4_init : jMt yX4_init cX4_init 1 none 0 := ⟨by decide +kernel, q102, q166, by decide⟩
theorem mtX5_init : jMt yX5_init cX5_init 1 none 0 := ⟨by decide +kernel, q103, q177, by decide⟩
theorem mtX6_init : jMt yX6_init cX6_init 1 none 0 := ⟨by decide +kernel, q107, q226, by decide⟩
theorem mtX8_init : jMt yX8_init cX8_init 2 none 0 := ⟨by decide +kernel, q109, q300, by decide⟩
theorem mtX9_init : jMt yX9_init cX9_init 1 none 0 := ⟨by decide +kernel, q110, q329, by decide⟩
theorem mtX7_init : jMt yX7_init cX7_init 2 none 0 := ⟨by decide +kernel, q108, q292, by decide⟩
theorem mtX13_init : jMt yX13_init cX13_init 2 none 1 := ⟨by decide +kernel, q118, q925, by decide⟩
theorem mtX14_init : jMt yX14_init cX14_init 2 none 1 := ⟨by decide +kernel, q119, q936, by decide⟩
theorem mtX15_init : jMt yX15_init cX15_init 2 none 1 := ⟨by decide +kernel, q120, q947, by decide⟩
theorem mtX18_init : jMt yX18_init cX18_init 2 none 1 := ⟨by decide +kernel, q123, q986, by decide⟩
theorem mtX19_init : jMt yX19_init cX19_init 1 none 0 := ⟨by decide +kernel, q124, q1001, by decide⟩
theorem mtX12_init : jMt yX12_init cX12_init 4 none 3 := ⟨by decide +kernel, q113, q1072, by decide⟩
theorem mtX4_marks : jMt yX4_marks cX4_marks 8 none 4 := ⟨by decide +kernel, q102, q690, by decide⟩
theorem mtX5_marks : jMt yX5_marks cX5_marks 8 none 4 := ⟨by decide +kernel, q103, q687, by decide⟩
theorem mtX3_slides : jMt yX3_slides cX3_slides 12 none 8 := ⟨by decide +kernel, q101, q684, by decide⟩
theorem mtX13_marks : jMt yX13_marks cX13_marks 6 none 4 := ⟨by decide +kernel, q118, q701, by decide⟩
theorem mtX14_marks : jMt yX14_marks cX14_marks 7 none 4 := ⟨by decide +kernel, q119, q696, by decide⟩
theorem mtX15_marks : jMt yX15_marks cX15_marks 5 none 4 := ⟨by decide +kernel, q120, q680, by decide⟩
theorem mtX23_init : jMt yX23_init cX23_init 5 none 4 := ⟨by decide +kernel, q134, q1253, by decide⟩
theorem mtX23_isNearly : jMt yX23_isNearly cX23_isNearly 2 (some .boolean) 1 := ⟨by decide +kernel, q134, q782, by decide⟩
theorem mvX23_isNearly : jMv yX23_isNearly := ⟨q780, q781⟩
theorem mtX23_isLike : jMt yX23_isLike cX23_isLike 2 (some .boolean) 1 := ⟨by decide +kernel, q134, q778, by decide⟩
theorem mvX23_isLike : jMv yX23_isLike := ⟨q776, q777⟩
theorem mtX8_be : jMt yX8_be cX8_be 2 none 1 := ⟨by decide +kernel, q109, q619, by decide⟩
theorem mvX8_be : jMv yX8_be := ⟨q617, q618⟩
theorem mtX8_goes : jMt yX8_goes cX8_goes 5 (some .int) 1 := ⟨by decide +kernel, q109, q662, by decide⟩
theorem mvX8_goes : jMv yX8_goes := ⟨q660, q661⟩
theorem mtX24_init : jMt yX24_init cX24_init 5 none 4 := ⟨by decide +kernel, q136, q1347, by decide⟩
theorem mtX24_is : jMt yX24_is cX24_is 2 (some .boolean) 1 := ⟨by decide +kernel, q136, q635, by decide⟩
theorem mvX24_is : jMv yX24_is := ⟨q633, q634⟩
theorem mtX8_men : jMt yX8_men cX8_men 4 (some .int) 1 := ⟨by decide +kernel, q109, q666, by decide⟩
theorem mvX8_men : jMv yX8_men := ⟨q664, q665⟩
theorem mtX18_holds : jMt yX18_holds cX18_holds 2 (some .boolean) 1 := ⟨by decide +kernel, q123, q747, by decide⟩
theorem mtX19_of : jMt yX19_of cX19_of 4 (some .int) 1 := ⟨by decide +kernel, q124, q733, by decide⟩
theorem mvX19_of : jMv yX19_of := ⟨q731, q732⟩
theorem mtX23_slip : jMt yX23_slip cX23_slip 14 (some .int) 5 := ⟨by decide +kernel, q134, q759, by decide⟩
theorem mvX23_slip : jMv yX23_slip := ⟨q757, q758⟩
theorem mtX9_isTwice : jMt yX9_isTwice cX9_isTwice 2 (some .boolean) 1 := ⟨by decide +kernel, q110, q774, by decide⟩
theorem mvX9_isTwice : jMv yX9_isTwice := ⟨q772, q773⟩
theorem mtX8_comes : jMt yX8_comes cX8_comes 5 none 2 := ⟨by decide +kernel, q109, q786, by decide⟩
theorem mvX8_comes : jMv yX8_comes := ⟨q784, q785⟩
theorem mtX9_be : jMt yX9_be cX9_be 2 none 1 := ⟨by decide +kernel, q110, q817, by decide⟩
theorem mvX9_be : jMv yX9_be := ⟨q815, q816⟩
theorem mtX7_be : jMt yX7_be cX7_be 3 none 1 := ⟨by decide +kernel, q108, q811, by decide⟩
theorem mvX7_be : jMv yX7_be := ⟨q809, q810⟩
section JW
variable {p : Program} {l : Launch} {e : Env} {R : Room} {s : State} {m : MethodId} {args : Array Value} {below : List Frame} {meth : Method} {c : Code} {Q : State → Prop} {D : jE} {S0 : State} {A0 : Array Value}
theorem wJ0_init_2 (K : JK p l R s m args meth c D S0 A0 5 cJ0_init_2 "java/lang/Throwable" 12) (hn : meth.name = "<init>") (bc bs : Nat) (this : Nat) (p1 : Option Nat) (p2 : Option Nat) (p3 : Int32) (p4 : Int32) (Qj : JP) (hret : jRetV p l e R s m args below meth c Q D S0 5 cJ0_init_2 Qj) : JR p l e R s m args below meth c Q D S0 5 bc bs (JJ0_init_2 this p1 p2 p3 p4 Qj) 0 [some (.ref this), some (va_rf p1), some (va_rf p2), some (.int p3), some (.int p4)] [] := by
  unfold JJ0_init_2
  refine jr_aload_n K dJ0_init_2_0 rfl ?_
  refine jr_objInit K q205 dJ0_init_2_1 (by decide) (Nat.le_of_ble_eq_true rfl) ?_
  refine jr_aload_n K dJ0_init_2_4 rfl ?_
  refine jr_aload_n K dJ0_init_2_5 rfl ?_
  refine jr_put K pf_J0_7 dJ0_init_2_6 rfl rfl ?_
  refine jr_aload_n K dJ0_init_2_9 rfl ?_
  refine jr_getsR K q207 (lw_tblOf q104) (by decide +kernel) q206 dJ0_init_2_10 (fun v10 => ?_)
  refine jr_put K pf_J0_17 dJ0_init_2_13 (jnar_rfA _ _) (jfits_rfA _ _) ?_
  refine jr_aload_n K dJ0_init_2_16 rfl ?_
  refine jr_getsR K q209 (lw_tblOf q104) (by decide +kernel) q208 dJ0_init_2_17 (fun v17 => ?_)
  refine jr_put K pf_J0_24 dJ0_init_2_20 (jnar_rf _ _) (jfits_rf _ _) ?_
  refine jr_iload K dJ0_init_2_23 rfl ?_
  refine jr_join (fun (k41 : JP) => JR p l e R s m args below meth c Q D S0 5 bc bs k41 41 [some (.ref this), some (va_rf p1), some (va_rf p2), some (.int p3), none] []) ?_ (fun k41 hk41 => ?_)
  · refine jr_aload_n K dJ0_init_2_41 rfl ?_
    refine jr_oload_n K dJ0_init_2_42 rfl ?_
    refine jr_put K pf_J0_31 dJ0_init_2_43 (jnar_rf _ _) (jfits_rf _ _) ?_
    refine jr_aload_n K dJ0_init_2_46 rfl ?_
    refine jr_oload_n K dJ0_init_2_47 rfl ?_
    refine jr_put K pf_J0_7 dJ0_init_2_48 (jnar_rf _ _) (jfits_rf _ _) ?_
    refine jr_iload_n K dJ0_init_2_51 rfl ?_
    refine jr_if_ne K (tgt := 60) dJ0_init_2_52 (by decide) ?_ ?_
    · exact hret _ _ _ _ dJ0_init_2_60
    · refine jr_aload_n K dJ0_init_2_55 rfl ?_
      refine jr_null K dJ0_init_2_56 ?_
      refine jr_put K pf_J0_24 dJ0_init_2_57 (jnar_rf _ _) (jfits_rf _ _) ?_
      exact hret _ _ _ _ dJ0_init_2_60
  refine jr_if_eq K (tgt := 36) dJ0_init_2_25 (by decide) ?_ ?_
  · refine jr_aload_n K dJ0_init_2_36 rfl ?_
    refine jr_null K dJ0_init_2_37 ?_
    refine jr_put K pf_J0_17 dJ0_init_2_38 (jnar_rfA _ _) (jfits_rfA _ _) ?_
    exact jr_weak (hk41) ⟨rfl, rfl, rfl, rfl, trivial⟩
  · refine jr_aload_n K dJ0_init_2_28 rfl ?_
    exact JR.bot
theorem metJ0_init_2 (hG : jG l D S0 A0) (this : Nat) (p1 : Option Nat) (p2 : Option Nat) (p3 : Int32) (p4 : Int32) (Qj : JP) : Met l yJ0_init_2 (ws_ yJ0_init_2 cJ0_init_2 5 none) (jrm 12 0 0) (va_Pc [.ref this, va_rf p1, va_rf p2, .int p3, .int p4] (jB D S0 (JJ0_init_2 this p1 p2 p3 p4 Qj))) (va_Qv Qj (fun σ t => jRep D S0.heap.size σ t.heap) (jA S0)) 0 0 (jA S0) :=
  jr_start hG (by decide) (by cases p1 <;> cases p2 <;> exact Nat.le_of_ble_eq_true rfl) (by cases p1 <;> cases p2 <;> rfl) fun p e s m below meth c K hr hn => wJ0_init_2 K hn _ _ this p1 p2 p3 p4 Qj (fun _ _ _ _ d => jr_vret K hr d)
theorem wJ1_init (K : JK p l R s m args meth c D S0 A0 5 cJ1_init "java/lang/Exception" 13) (hn : meth.name = "<init>") (bc bs : Nat) (this : Nat) (p1 : Option Nat) (p2 : Option Nat) (p3 : Int32) (p4 : Int32) (Qj : JP) (hret : jRetV p l e R s m args below meth c Q D S0 5 cJ1_init Qj) : JR p l e R s m args below meth c Q D S0 5 bc bs (JJ1_init this p1 p2 p3 p4 Qj) 0 [some (.ref this), some (va_rf p1), some (va_rf p2), some (.int p3), some (.int p4)] [] := by
  unfold JJ1_init
  refine jr_aload_n K dJ1_init_0 rfl ?_
  refine jr_oload_n K dJ1_init_1 rfl ?_
  refine jr_oload_n K dJ1_init_2 rfl ?_
  refine jr_iload_n K dJ1_init_3 rfl ?_
  refine jr_iload K dJ1_init_4 rfl ?_
  refine jr_callv0 (jrun_I (As := [va_rf p1, va_rf p2, .int p3, .int p4]) (st := []) K (metJ0_init_2 K.hG this p1 p2 p3 p4 _) mtJ0_init_2 q234 rfl q233 rfl rfl (by simp only [List.map, jcat_rf]; exact Nat.le_of_ble_eq_true rfl) (by decide) ⟨Nat.zero_le _, Nat.zero_le _⟩ dJ1_init_6) ?_
  exact hret _ _ _ _ dJ1_init_9
theorem metJ1_init (hG : jG l D S0 A0) (this : Nat) (p1 : Option Nat) (p2 : Option Nat) (p3 : Int32) (p4 : Int32) (Qj : JP) : Met l yJ1_init (ws_ yJ1_init cJ1_init 5 none) (jrm 13 0 0) (va_Pc [.ref this, va_rf p1, va_rf p2, .int p3, .int p4] (jB D S0 (JJ1_init this p1 p2 p3 p4 Qj))) (va_Qv Qj (fun σ t => jRep D S0.heap.size σ t.heap) (jA S0)) 0 0 (jA S0) :=
  jr_start hG (by decide) (by cases p1 <;> cases p2 <;> exact Nat.le_of_ble_eq_true rfl) (by cases p1 <;> cases p2 <;> rfl) fun p e s m below meth c K hr hn => wJ1_init K hn _ _ this p1 p2 p3 p4 Qj (fun _ _ _ _ d => jr_vret K hr d)
theorem wJ13_bitCount (K : JK p l R s m args meth c D S0 A0 1 cJ13_bitCount "java/lang/Integer" 12) (bc bs : Nat) (p0 : Int32) (Qj : Int32 → JP) (hret : jRetI p l e R s m args below meth c Q D S0 1 cJ13_bitCount Qj) : JR p l e R s m args below meth c Q D S0 1 bc bs (JJ13_bitCount p0 Qj) 0 [some (.int p0)] [] := by
  unfold JJ13_bitCount
  refine jr_iload_n K dJ13_bitCount_0 rfl ?_
  refine jr_iload_n K dJ13_bitCount_1 rfl ?_
  refine jr_iconst K dJ13_bitCount_2 (v := (nI 1)) (by decide) ?_
  refine jr_iushr K dJ13_bitCount_3 ?_
  refine jr_ldcw K (v := (nI 1431655765)) q763 (by decide) dJ13_bitCount_4 ?_
  refine jr_iand K dJ13_bitCount_7 ?_
  refine jr_isub K dJ13_bitCount_8 ?_
  refine jr_istore_n K (L' := [some (.int (p0 - ((jushr p0 (nI 1)) &&& (nI 1431655765))))]) dJ13_bitCount_9 (by decide) rfl rfl ?_
  refine jr_iload_n K dJ13_bitCount_10 rfl ?_
  refine jr_ldcw K (v := (nI 858993459)) q764 (by decide) dJ13_bitCount_11 ?_
  refine jr_iand K dJ13_bitCount_14 ?_
  refine jr_iload_n K dJ13_bitCount_15 rfl ?_
  refine jr_iconst K dJ13_bitCount_16 (v := (nI 2)) (by decide) ?_
  refine jr_iushr K dJ13_bitCount_17 ?_
  refine jr_ldcw K (v := (nI 858993459)) q764 (by decide) dJ13_bitCount_18 ?_
  refine jr_iand K dJ13_bitCount_21 ?_
  refine jr_iadd K dJ13_bitCount_22 ?_
  refine jr_istore_n K (L' := [some (.int (((p0 - ((jushr p0 (nI 1)) &&& (nI 1431655765))) &&& (nI 858993459)) + ((jushr (p0 - ((jushr p0 (nI 1)) &&& (nI 1431655765))) (nI 2)) &&& (nI 858993459))))]) dJ13_bitCount_23 (by decide) rfl rfl ?_
  refine jr_iload_n K dJ13_bitCount_24 rfl ?_
  refine jr_iload_n K dJ13_bitCount_25 rfl ?_
  refine jr_iconst K dJ13_bitCount_26 (v := (nI 4)) (by decide) ?_
  refine jr_iushr K dJ13_bitCount_27 ?_
  refine jr_iadd K dJ13_bitCount_28 ?_
  refine jr_ldcw K (v := (nI 252645135)) q765 (by decide) dJ13_bitCount_29 ?_
  refine jr_iand K dJ13_bitCount_32 ?_
  refine jr_istore_n K (L' := [some (.int (((((p0 - ((jushr p0 (nI 1)) &&& (nI 1431655765))) &&& (nI 858993459)) + ((jushr (p0 - ((jushr p0 (nI 1)) &&& (nI 1431655765))) (nI 2)) &&& (nI 858993459))) + (jushr (((p0 - ((jushr p0 (nI 1)) &&& (nI 1431655765))) &&& (nI 858993459)) + ((jushr (p0 - ((jushr p0 (nI 1)) &&& (nI 1431655765))) (nI 2)) &&& (nI 858993459))) (nI 4))) &&& (nI 252645135)))]) dJ13_bitCount_33 (by decide) rfl rfl ?_
  refine jr_iload_n K dJ13_bitCount_34 rfl ?_
  refine jr_iload_n K dJ13_bitCount_35 rfl ?_
  refine jr_bipush K dJ13_bitCount_36 (v := (nI 8)) (by decide) ?_
  refine jr_iushr K dJ13_bitCount_38 ?_
  refine jr_iadd K dJ13_bitCount_39 ?_
  refine jr_istore_n K (L' := [some (.int ((((((p0 - ((jushr p0 (nI 1)) &&& (nI 1431655765))) &&& (nI 858993459)) + ((jushr (p0 - ((jushr p0 (nI 1)) &&& (nI 1431655765))) (nI 2)) &&& (nI 858993459))) + (jushr (((p0 - ((jushr p0 (nI 1)) &&& (nI 1431655765))) &&& (nI 858993459)) + ((jushr (p0 - ((jushr p0 (nI 1)) &&& (nI 1431655765))) (nI 2)) &&& (nI 858993459))) (nI 4))) &&& (nI 252645135)) + (jushr (((((p0 - ((jushr p0 (nI 1)) &&& (nI 1431655765))) &&& (nI 858993459)) + ((jushr (p0 - ((jushr p0 (nI 1)) &&& (nI 1431655765))) (nI 2)) &&& (nI 858993459))) + (jushr (((p0 - ((jushr p0 (nI 1)) &&& (nI 1431655765))) &&& (nI 858993459)) + ((jushr (p0 - ((jushr p0 (nI 1)) &&& (nI 1431655765))) (nI 2)) &&& (nI 858993459))) (nI 4))) &&& (nI 252645135)) (nI 8))))]) dJ13_bitCount_40 (by decide) rfl rfl ?_
  refine jr_iload_n K dJ13_bitCount_41 rfl ?_
  refine jr_iload_n K dJ13_bitCount_42 rfl ?_
  refine jr_bipush K dJ13_bitCount_43 (v := (nI 16)) (by decide) ?_
  refine jr_iushr K dJ13_bitCount_45 ?_
  refine jr_iadd K dJ13_bitCount_46 ?_
  refine jr_istore_n K (L' := [some (.int (((((((p0 - ((jushr p0 (nI 1)) &&& (nI 1431655765))) &&& (nI 858993459)) + ((jushr (p0 - ((jushr p0 (nI 1)) &&& (nI 1431655765))) (nI 2)) &&& (nI 858993459))) + (jushr (((p0 - ((jushr p0 (nI 1)) &&& (nI 1431655765))) &&& (nI 858993459)) + ((jushr (p0 - ((jushr p0 (nI 1)) &&& (nI 1431655765))) (nI 2)) &&& (nI 858993459))) (nI 4))) &&& (nI 252645135)) + (jushr (((((p0 - ((jushr p0 (nI 1)) &&& (nI 1431655765))) &&& (nI 858993459)) + ((jushr (p0 - ((jushr p0 (nI 1)) &&& (nI 1431655765))) (nI 2)) &&& (nI 858993459))) + (jushr (((p0 - ((jushr p0 (nI 1)) &&& (nI 1431655765))) &&& (nI 858993459)) + ((jushr (p0 - ((jushr p0 (nI 1)) &&& (nI 1431655765))) (nI 2)) &&& (nI 858993459))) (nI 4))) &&& (nI 252645135)) (nI 8))) + (jushr ((((((p0 - ((jushr p0 (nI 1)) &&& (nI 1431655765))) &&& (nI 858993459)) + ((jushr (p0 - ((jushr p0 (nI 1)) &&& (nI 1431655765))) (nI 2)) &&& (nI 858993459))) + (jushr (((p0 - ((jushr p0 (nI 1)) &&& (nI 1431655765))) &&& (nI 858993459)) + ((jushr (p0 - ((jushr p0 (nI 1)) &&& (nI 1431655765))) (nI 2)) &&& (nI 858993459))) (nI 4))) &&& (nI 252645135)) + (jushr (((((p0 - ((jushr p0 (nI 1)) &&& (nI 1431655765))) &&& (nI 858993459)) + ((jushr (p0 - ((jushr p0 (nI 1)) &&& (nI 1431655765))) (nI 2)) &&& (nI 858993459))) + (jushr (((p0 - ((jushr p0 (nI 1)) &&& (nI 1431655765))) &&& (nI 858993459)) + ((jushr (p0 - ((jushr p0 (nI 1)) &&& (nI 1431655765))) (nI 2)) &&& (nI 858993459))) (nI 4))) &&& (nI 252645135)) (nI 8))) (nI 16))))]) dJ13_bitCount_47 (by decide) rfl rfl ?_
  refine jr_iload_n K dJ13_bitCount_48 rfl ?_
  refine jr_bipush K dJ13_bitCount_49 (v := (nI 63)) (by decide) ?_
  refine jr_iand K dJ13_bitCount_51 ?_
  exact hret _ _ _ _ _ dJ13_bitCount_52
theorem metJ13_bitCount (hG : jG l D S0 A0) (p0 : Int32) (Qj : Int32 → JP) : Met l yJ13_bitCount (ws_ yJ13_bitCount cJ13_bitCount 1 (some .int)) (jrm 12 0 0) (va_Pc [.int p0] (jB D S0 (JJ13_bitCount p0 Qj))) (va_Qi Qj (fun σ t => jRep D S0.heap.size σ t.heap) (jA S0)) 0 0 (jA S0) :=
  jr_start hG (by decide) (Nat.le_of_ble_eq_true rfl) rfl fun p e s m below meth c K hr hn => wJ13_bitCount K _ _ p0 Qj (fun _ _ _ _ _ d => jr_iret K hr rfl d)
theorem wJ13_numberOfTrailingZeros (K : JK p l R s m args meth c D S0 A0 2 cJ13_numberOfTrailingZeros "java/lang/Integer" 12) (bc bs : Nat) (p0 : Int32) (Qj : Int32 → JP) (hret : jRetI p l e R s m args below meth c Q D S0 2 cJ13_numberOfTrailingZeros Qj) : JR p l e R s m args below meth c Q D S0 2 bc bs (JJ13_numberOfTrailingZeros p0 Qj) 0 [some (.int p0), none] [] := by
  unfold JJ13_numberOfTrailingZeros
  refine jr_iload_n K dJ13_numberOfTrailingZeros_0 rfl ?_
  refine jr_iconst K dJ13_numberOfTrailingZeros_1 (v := (-1)) (by decide) ?_
  refine jr_ixor K dJ13_numberOfTrailingZeros_2 ?_
  refine jr_iload_n K dJ13_numberOfTrailingZeros_3 rfl ?_
  refine jr_iconst K dJ13_numberOfTrailingZeros_4 (v := (nI 1)) (by decide) ?_
  refine jr_isub K dJ13_numberOfTrailingZeros_5 ?_
  refine jr_iand K dJ13_numberOfTrailingZeros_6 ?_
  refine jr_istore_n K (L' := [some (.int ((p0 ^^^ (-1)) &&& (p0 - (nI 1)))), none]) dJ13_numberOfTrailingZeros_7 (by decide) rfl rfl ?_
  refine jr_iload_n K dJ13_numberOfTrailingZeros_8 rfl ?_
  refine jr_if_gt K (tgt := 17) dJ13_numberOfTrailingZeros_9 (by decide) ?_ ?_
  · refine jr_iconst K dJ13_numberOfTrailingZeros_17 (v := (nI 1)) (by decide) ?_
    refine jr_istore_n K (L' := [some (.int ((p0 ^^^ (-1)) &&& (p0 - (nI 1)))), some (.int (nI 1))]) dJ13_numberOfTrailingZeros_18 (by decide) rfl rfl ?_
    refine jr_iload_n K dJ13_numberOfTrailingZeros_19 rfl ?_
    refine jr_ldcw K (v := (nI 65536)) q769 (by decide) dJ13_numberOfTrailingZeros_20 ?_
    refine jr_join (fun (k34 : Int32 → Int32 → JP) => ∀ (x0_34 : Int32) (x1_34 : Int32), JR p l e R s m args below meth c Q D S0 2 bc bs (k34 x0_34 x1_34) 34 [some (.int x0_34), some (.int x1_34)] []) ?_ (fun k34 hk34 => ?_)
    · intro x0_34 x1_34
      refine jr_iload_n K dJ13_numberOfTrailingZeros_34 rfl ?_
      refine jr_sipush K dJ13_numberOfTrailingZeros_35 (v := (nI 256)) (by decide) ?_
      refine jr_join (fun (k49 : Int32 → Int32 → JP) => ∀ (x0_49 : Int32) (x1_49 : Int32), JR p l e R s m args below meth c Q D S0 2 bc bs (k49 x0_49 x1_49) 49 [some (.int x0_49), some (.int x1_49)] []) ?_ (fun k49 hk49 => ?_)
      · intro x0_49 x1_49
        refine jr_iload_n K dJ13_numberOfTrailingZeros_49 rfl ?_
        refine jr_bipush K dJ13_numberOfTrailingZeros_50 (v := (nI 16)) (by decide) ?_
        refine jr_join (fun (k62 : Int32 → Int32 → JP) => ∀ (x0_62 : Int32) (x1_62 : Int32), JR p l e R s m args below meth c Q D S0 2 bc bs (k62 x0_62 x1_62) 62 [some (.int x0_62), some (.int x1_62)] []) ?_ (fun k62 hk62 => ?_)
        · intro x0_62 x1_62
          refine jr_iload_n K dJ13_numberOfTrailingZeros_62 rfl ?_
          refine jr_iconst K dJ13_numberOfTrailingZeros_63 (v := (nI 4)) (by decide) ?_
          refine jr_join (fun (k74 : Int32 → Int32 → JP) => ∀ (x0_74 : Int32) (x1_74 : Int32), JR p l e R s m args below meth c Q D S0 2 bc bs (k74 x0_74 x1_74) 74 [some (.int x0_74), some (.int x1_74)] []) ?_ (fun k74 hk74 => ?_)
          · intro x0_74 x1_74
            refine jr_iload_n K dJ13_numberOfTrailingZeros_74 rfl ?_
            refine jr_iload_n K dJ13_numberOfTrailingZeros_75 rfl ?_
            refine jr_iconst K dJ13_numberOfTrailingZeros_76 (v := (nI 1)) (by decide) ?_
            refine jr_iushr K dJ13_numberOfTrailingZeros_77 ?_
            refine jr_iadd K dJ13_numberOfTrailingZeros_78 ?_
            exact hret _ _ _ _ _ dJ13_numberOfTrailingZeros_79
          refine jr_icmp_le K (tgt := 74) dJ13_numberOfTrailingZeros_64 (by decide) ?_ ?_
          · exact jr_weak (hk74 x0_62 x1_62) ⟨rfl, rfl, trivial⟩
          · refine jr_iinc K (v := (x1_62 + (nI 2))) (L' := [some (.int x0_62), some (.int (x1_62 + (nI 2)))]) dJ13_numberOfTrailingZeros_67 rfl rfl (by decide) rfl rfl ?_
            refine jr_iload_n K dJ13_numberOfTrailingZeros_70 rfl ?_
            refine jr_iconst K dJ13_numberOfTrailingZeros_71 (v := (nI 2)) (by decide) ?_
            refine jr_iushr K dJ13_numberOfTrailingZeros_72 ?_
            refine jr_istore_n K (L' := [some (.int (jushr x0_62 (nI 2))), some (.int (x1_62 + (nI 2)))]) dJ13_numberOfTrailingZeros_73 (by decide) rfl rfl ?_
            exact jr_weak (hk74 (jushr x0_62 (nI 2)) (x1_62 + (nI 2))) ⟨rfl, rfl, trivial⟩
        refine jr_icmp_le K (tgt := 62) dJ13_numberOfTrailingZeros_52 (by decide) ?_ ?_
        · exact jr_weak (hk62 x0_49 x1_49) ⟨rfl, rfl, trivial⟩
        · refine jr_iinc K (v := (x1_49 + (nI 4))) (L' := [some (.int x0_49), some (.int (x1_49 + (nI 4)))]) dJ13_numberOfTrailingZeros_55 rfl rfl (by decide) rfl rfl ?_
          refine jr_iload_n K dJ13_numberOfTrailingZeros_58 rfl ?_
          refine jr_iconst K dJ13_numberOfTrailingZeros_59 (v := (nI 4)) (by decide) ?_
          refine jr_iushr K dJ13_numberOfTrailingZeros_60 ?_
          refine jr_istore_n K (L' := [some (.int (jushr x0_49 (nI 4))), some (.int (x1_49 + (nI 4)))]) dJ13_numberOfTrailingZeros_61 (by decide) rfl rfl ?_
          exact jr_weak (hk62 (jushr x0_49 (nI 4)) (x1_49 + (nI 4))) ⟨rfl, rfl, trivial⟩
      refine jr_icmp_le K (tgt := 49) dJ13_numberOfTrailingZeros_38 (by decide) ?_ ?_
      · exact jr_weak (hk49 x0_34 x1_34) ⟨rfl, rfl, trivial⟩
      · refine jr_iinc K (v := (x1_34 + (nI 8))) (L' := [some (.int x0_34), some (.int (x1_34 + (nI 8)))]) dJ13_numberOfTrailingZeros_41 rfl rfl (by decide) rfl rfl ?_
        refine jr_iload_n K dJ13_numberOfTrailingZeros_44 rfl ?_
        refine jr_bipush K dJ13_numberOfTrailingZeros_45 (v := (nI 8)) (by decide) ?_
        refine jr_iushr K dJ13_numberOfTrailingZeros_47 ?_
        refine jr_istore_n K (L' := [some (.int (jushr x0_34 (nI 8))), some (.int (x1_34 + (nI 8)))]) dJ13_numberOfTrailingZeros_48 (by decide) rfl rfl ?_
        exact jr_weak (hk49 (jushr x0_34 (nI 8)) (x1_34 + (nI 8))) ⟨rfl, rfl, trivial⟩
    refine jr_icmp_le K (tgt := 34) dJ13_numberOfTrailingZeros_23 (by decide) ?_ ?_
    · exact jr_weak (hk34 ((p0 ^^^ (-1)) &&& (p0 - (nI 1))) (nI 1)) ⟨rfl, rfl, trivial⟩
    · refine jr_iinc K (v := ((nI 1) + (nI 16))) (L' := [some (.int ((p0 ^^^ (-1)) &&& (p0 - (nI 1)))), some (.int ((nI 1) + (nI 16)))]) dJ13_numberOfTrailingZeros_26 rfl rfl (by decide) rfl rfl ?_
      refine jr_iload_n K dJ13_numberOfTrailingZeros_29 rfl ?_
      refine jr_bipush K dJ13_numberOfTrailingZeros_30 (v := (nI 16)) (by decide) ?_
      refine jr_iushr K dJ13_numberOfTrailingZeros_32 ?_
      refine jr_istore_n K (L' := [some (.int (jushr ((p0 ^^^ (-1)) &&& (p0 - (nI 1))) (nI 16))), some (.int ((nI 1) + (nI 16)))]) dJ13_numberOfTrailingZeros_33 (by decide) rfl rfl ?_
      exact jr_weak (hk34 (jushr ((p0 ^^^ (-1)) &&& (p0 - (nI 1))) (nI 16)) ((nI 1) + (nI 16))) ⟨rfl, rfl, trivial⟩
  · refine jr_iload_n K dJ13_numberOfTrailingZeros_12 rfl ?_
    refine jr_bipush K dJ13_numberOfTrailingZeros_13 (v := (nI 32)) (by decide) ?_
    refine jr_iand K dJ13_numberOfTrailingZeros_15 ?_
    exact hret _ _ _ _ _ dJ13_numberOfTrailingZeros_16
theorem metJ13_numberOfTrailingZeros (hG : jG l D S0 A0) (p0 : Int32) (Qj : Int32 → JP) : Met l yJ13_numberOfTrailingZeros (ws_ yJ13_numberOfTrailingZeros cJ13_numberOfTrailingZeros 2 (some .int)) (jrm 12 0 0) (va_Pc [.int p0] (jB D S0 (JJ13_numberOfTrailingZeros p0 Qj))) (va_Qi Qj (fun σ t => jRep D S0.heap.size σ t.heap) (jA S0)) 0 0 (jA S0) :=
  jr_start hG (by decide) (Nat.le_of_ble_eq_true rfl) rfl fun p e s m below meth c K hr hn => wJ13_numberOfTrailingZeros K _ _ p0 Qj (fun _ _ _ _ _ d => jr_iret K hr rfl d)
theorem wJ2_init (K : JK p l R s m args meth c D S0 A0 5 cJ2_init "java/lang/RuntimeException" 14) (hn : meth.name = "<init>") (bc bs : Nat) (this : Nat) (p1 : Option Nat) (p2 : Option Nat) (p3 : Int32) (p4 : Int32) (Qj : JP) (hret : jRetV p l e R s m args below meth c Q D S0 5 cJ2_init Qj) : JR p l e R s m args below meth c Q D S0 5 bc bs (JJ2_init this p1 p2 p3 p4 Qj) 0 [some (.ref this), some (va_rf p1), some (va_rf p2), some (.int p3), some (.int p4)] [] := by
  unfold JJ2_init
  refine jr_aload_n K dJ2_init_0 rfl ?_
  refine jr_oload_n K dJ2_init_1 rfl ?_
  refine jr_oload_n K dJ2_init_2 rfl ?_
  refine jr_iload_n K dJ2_init_3 rfl ?_
  refine jr_iload K dJ2_init_4 rfl ?_
  refine jr_callv0 (jrun_I (As := [va_rf p1, va_rf p2, .int p3, .int p4]) (st := []) K (metJ1_init K.hG this p1 p2 p3 p4 _) mtJ1_init q231 rfl q230 rfl rfl (by simp only [List.map, jcat_rf]; exact Nat.le_of_ble_eq_true rfl) (by decide) ⟨Nat.zero_le _, Nat.zero_le _⟩ dJ2_init_6) ?_
  exact hret _ _ _ _ dJ2_init_9
theorem metJ2_init (hG : jG l D S0 A0) (this : Nat) (p1 : Option Nat) (p2 : Option Nat) (p3 : Int32) (p4 : Int32) (Qj : JP) : Met l yJ2_init (ws_ yJ2_init cJ2_init 5 none) (jrm 14 0 0) (va_Pc [.ref this, va_rf p1, va_rf p2, .int p3, .int p4] (jB D S0 (JJ2_init this p1 p2 p3 p4 Qj))) (va_Qv Qj (fun σ t => jRep D S0.heap.size σ t.heap) (jA S0)) 0 0 (jA S0) :=
  jr_start hG (by decide) (by cases p1 <;> cases p2 <;> exact Nat.le_of_ble_eq_true rfl) (by cases p1 <;> cases p2 <;> rfl) fun p e s m below meth c K hr hn => wJ2_init K hn _ _ this p1 p2 p3 p4 Qj (fun _ _ _ _ d => jr_vret K hr d)
theorem wJ3_coder (K : JK p l R s m args meth c D S0 A0 1 cJ3_coder "java/lang/String" 12) (bc bs : Nat) (sK : Nat → Nat) (this : Nat) (Qj : Int32 → JP) (hS : jSt S0 sK) (hret : jRetN p l e R s m args below meth c Q D S0 1 cJ3_coder .byte Qj) : JR p l e R s m args below meth c Q D S0 1 bc bs (JJ3_coder sK this Qj) 0 [some (.ref this)] [] := by
  unfold JJ3_coder
  refine jr_gets K (v := (nI 1)) q878 (lw_tblOf q114) (by decide +kernel) q877 dJ3_coder_0 ?_
  refine jr_if_eq K (tgt := 13) dJ3_coder_3 (by decide) ?_ ?_
  · refine jr_iconst K dJ3_coder_13 (v := (nI 1)) (by decide) ?_
    exact hret _ _ _ _ _ dJ3_coder_14
  · refine jr_aload_n K dJ3_coder_6 rfl ?_
    refine jr_scod K hS q2110 dJ3_coder_7 ?_
    refine jr_goto K (tgt := 14) dJ3_coder_10 (by decide) ?_
    exact hret _ _ _ _ _ dJ3_coder_14
theorem metJ3_coder (hG : jG l D S0 A0) {sK : Nat → Nat} (hS : jSt S0 sK) (this : Nat) (Qj : Int32 → JP) : Met l yJ3_coder (ws_ yJ3_coder cJ3_coder 1 (some .byte)) (jrm 12 0 0) (va_Pc [.ref this] (jB D S0 (JJ3_coder sK this Qj))) (va_Qi Qj (fun σ t => jRep D S0.heap.size σ t.heap) (jA S0)) 0 0 (jA S0) :=
  jr_start hG (by decide) (Nat.le_of_ble_eq_true rfl) rfl fun p e s m below meth c K hr hn => wJ3_coder K _ _ sK this Qj hS (fun _ _ _ _ _ d => jr_nret K hr d)
theorem wJ3_length (K : JK p l R s m args meth c D S0 A0 1 cJ3_length "java/lang/String" 13) (bc bs : Nat) (sK : Nat → Nat) (this : Nat) (Qj : Int32 → JP) (hS : jSt S0 sK) (hret : jRetI p l e R s m args below meth c Q D S0 1 cJ3_length Qj) : JR p l e R s m args below meth c Q D S0 1 bc bs (JJ3_length sK this Qj) 0 [some (.ref this)] [] := by
  unfold JJ3_length
  refine jr_aload_n K dJ3_length_0 rfl ?_
  refine jr_sval K hS q2109 dJ3_length_1 (fun v1 => ?_)
  refine jr_slen K hS dJ3_length_4 (fun v4 => ?_)
  refine jr_aload_n K dJ3_length_5 rfl ?_
  refine jr_calli0 (jrun_VS (As := []) (st := [.int v4]) K hS rfl (metJ3_coder K.hG hS this _) mtJ3_coder mvJ3_coder q873 rfl rfl (Nat.le_of_ble_eq_true rfl) (by decide) ⟨Nat.zero_le _, Nat.zero_le _⟩ dJ3_length_6) (fun v6 => ?_)
  refine jr_ishr K dJ3_length_9 ?_
  exact hret _ _ _ _ _ dJ3_length_10
theorem metJ3_length (hG : jG l D S0 A0) {sK : Nat → Nat} (hS : jSt S0 sK) (this : Nat) (Qj : Int32 → JP) : Met l yJ3_length (ws_ yJ3_length cJ3_length 1 (some .int)) (jrm 13 0 0) (va_Pc [.ref this] (jB D S0 (JJ3_length sK this Qj))) (va_Qi Qj (fun σ t => jRep D S0.heap.size σ t.heap) (jA S0)) 0 0 (jA S0) :=
  jr_start hG (by decide) (Nat.le_of_ble_eq_true rfl) rfl fun p e s m below meth c K hr hn => wJ3_length K _ _ sK this Qj hS (fun _ _ _ _ _ d => jr_iret K hr rfl d)
theorem wJ3_isLatin1 (K : JK p l R s m args meth c D S0 A0 1 cJ3_isLatin1 "java/lang/String" 12) (bc bs : Nat) (sK : Nat → Nat) (this : Nat) (Qj : Int32 → JP) (hS : jSt S0 sK) (hret : jRetZ p l e R s m args below meth c Q D S0 1 cJ3_isLatin1 Qj) : JR p l e R s m args below meth c Q D S0 1 bc bs (JJ3_isLatin1 sK this Qj) 0 [some (.ref this)] [] := by
  unfold JJ3_isLatin1
  refine jr_gets K (v := (nI 1)) q878 (lw_tblOf q114) (by decide +kernel) q877 dJ3_isLatin1_0 ?_
  refine jr_join (fun (k17 : JP) => JR p l e R s m args below meth c Q D S0 1 bc bs k17 17 [none] []) ?_ (fun k17 hk17 => ?_)
  · refine jr_iconst K dJ3_isLatin1_17 (v := (nI 0)) (by decide) ?_
    exact JR.imp (fun _ h => ⟨Or.inl rfl, h⟩) (hret _ _ _ _ _ dJ3_isLatin1_18)
  refine jr_if_eq K (tgt := 17) dJ3_isLatin1_3 (by decide) ?_ ?_
  · exact jr_weak (hk17) trivial
  · refine jr_aload_n K dJ3_isLatin1_6 rfl ?_
    refine jr_scod K hS q2110 dJ3_isLatin1_7 ?_
    refine jr_if_ne K (tgt := 17) dJ3_isLatin1_10 (by decide) ?_ ?_
    · exact jr_weak (hk17) trivial
    · refine jr_iconst K dJ3_isLatin1_13 (v := (nI 1)) (by decide) ?_
      refine jr_goto K (tgt := 18) dJ3_isLatin1_14 (by decide) ?_
      exact JR.imp (fun _ h => ⟨Or.inr rfl, h⟩) (hret _ _ _ _ _ dJ3_isLatin1_18)
theorem metJ3_isLatin1 (hG : jG l D S0 A0) {sK : Nat → Nat} (hS : jSt S0 sK) (this : Nat) (Qj : Int32 → JP) : Met l yJ3_isLatin1 (ws_ yJ3_isLatin1 cJ3_isLatin1 1 (some .boolean)) (jrm 12 0 0) (va_Pc [.ref this] (jB D S0 (JJ3_isLatin1 sK this Qj))) (va_Qi Qj (fun σ t => jRep D S0.heap.size σ t.heap) (jA S0)) 0 0 (jA S0) :=
  jr_start hG (by decide) (Nat.le_of_ble_eq_true rfl) rfl fun p e s m below meth c K hr hn => wJ3_isLatin1 K _ _ sK this Qj hS (fun _ _ _ _ _ d => jr_zret K hr d)
theorem wJ5_checkIndex (K : JK p l R s m args meth c D S0 A0 3 cJ5_checkIndex "jdk/internal/util/Preconditions" 12) (bc bs : Nat) (p0 : Int32) (p1 : Int32) (p2 : Option Nat) (Qj : Int32 → JP) (hret : jRetI p l e R s m args below meth c Q D S0 3 cJ5_checkIndex Qj) : JR p l e R s m args below meth c Q D S0 3 bc bs (JJ5_checkIndex p0 p1 p2 Qj) 0 [some (.int p0), some (.int p1), some (va_rf p2)] [] := by
  unfold JJ5_checkIndex
  refine jr_iload_n K dJ5_checkIndex_0 rfl ?_
  refine jr_join (fun (k9 : JP) => JR p l e R s m args below meth c Q D S0 3 bc bs k9 9 [some (.int p0), some (.int p1), some (va_rf p2)] []) ?_ (fun k9 hk9 => ?_)
  · refine jr_oload_n K dJ5_checkIndex_9 rfl ?_
    refine jr_iload_n K dJ5_checkIndex_10 rfl ?_
    refine jr_iload_n K dJ5_checkIndex_11 rfl ?_
    exact JR.bot
  refine jr_if_lt K (tgt := 9) dJ5_checkIndex_1 (by decide) ?_ ?_
  · exact jr_weak (hk9) ⟨rfl, rfl, rfl, trivial⟩
  · refine jr_iload_n K dJ5_checkIndex_4 rfl ?_
    refine jr_iload_n K dJ5_checkIndex_5 rfl ?_
    refine jr_icmp_lt K (tgt := 16) dJ5_checkIndex_6 (by decide) ?_ ?_
    · refine jr_iload_n K dJ5_checkIndex_16 rfl ?_
      exact hret _ _ _ _ _ dJ5_checkIndex_17
    · exact jr_weak (hk9) ⟨rfl, rfl, rfl, trivial⟩
theorem metJ5_checkIndex (hG : jG l D S0 A0) (p0 : Int32) (p1 : Int32) (p2 : Option Nat) (Qj : Int32 → JP) : Met l yJ5_checkIndex (ws_ yJ5_checkIndex cJ5_checkIndex 3 (some .int)) (jrm 12 0 0) (va_Pc [.int p0, .int p1, va_rf p2] (jB D S0 (JJ5_checkIndex p0 p1 p2 Qj))) (va_Qi Qj (fun σ t => jRep D S0.heap.size σ t.heap) (jA S0)) 0 0 (jA S0) :=
  jr_start hG (by decide) (by cases p2 <;> exact Nat.le_of_ble_eq_true rfl) (by cases p2 <;> rfl) fun p e s m below meth c K hr hn => wJ5_checkIndex K _ _ p0 p1 p2 Qj (fun _ _ _ _ _ d => jr_iret K hr rfl d)
theorem wJ3_checkIndex (K : JK p l R s m args meth c D S0 A0 2 cJ3_checkIndex "java/lang/String" 13) (bc bs : Nat) (sK : Nat → Nat) (p0 : Int32) (p1 : Int32) (Qj : JP) (hS : jSt S0 sK) (hret : jRetV p l e R s m args below meth c Q D S0 2 cJ3_checkIndex Qj) : JR p l e R s m args below meth c Q D S0 2 bc bs (JJ3_checkIndex sK p0 p1 Qj) 0 [some (.int p0), some (.int p1)] [] := by
  unfold JJ3_checkIndex
  refine jr_iload_n K dJ3_checkIndex_0 rfl ?_
  refine jr_iload_n K dJ3_checkIndex_1 rfl ?_
  refine jr_getsR K q894 (lw_tblOf q116) (by decide +kernel) q893 dJ3_checkIndex_2 (fun v2 => ?_)
  refine jr_calli0 (jrun_S (As := [.int p0, .int p1, va_rf v2]) (st := []) K (metJ5_checkIndex K.hG p0 p1 v2 _) mtJ5_checkIndex q896 q895 rfl rfl (by simp only [List.map, jcat_rf]; exact Nat.le_of_ble_eq_true rfl) (by decide) ⟨Nat.zero_le _, Nat.zero_le _⟩ dJ3_checkIndex_5) (fun v5 => ?_)
  refine jr_pop K dJ3_checkIndex_8 rfl ?_
  exact hret _ _ _ _ dJ3_checkIndex_9
theorem metJ3_checkIndex (hG : jG l D S0 A0) {sK : Nat → Nat} (hS : jSt S0 sK) (p0 : Int32) (p1 : Int32) (Qj : JP) : Met l yJ3_checkIndex (ws_ yJ3_checkIndex cJ3_checkIndex 2 none) (jrm 13 0 0) (va_Pc [.int p0, .int p1] (jB D S0 (JJ3_checkIndex sK p0 p1 Qj))) (va_Qv Qj (fun σ t => jRep D S0.heap.size σ t.heap) (jA S0)) 0 0 (jA S0) :=
  jr_start hG (by decide) (Nat.le_of_ble_eq_true rfl) rfl fun p e s m below meth c K hr hn => wJ3_checkIndex K _ _ sK p0 p1 Qj hS (fun _ _ _ _ d => jr_vret K hr d)
theorem wJ4_charAt (K : JK p l R s m args meth c D S0 A0 2 cJ4_charAt "java/lang/StringLatin1" 14) (bc bs : Nat) (sK : Nat → Nat) (p0 : Nat) (p1 : Int32) (Qj : Int32 → JP) (hS : jSt S0 sK) (hret : jRetN p l e R s m args below meth c Q D S0 2 cJ4_charAt .char Qj) : JR p l e R s m args below meth c Q D S0 2 bc bs (JJ4_charAt sK p0 p1 Qj) 0 [some (.ref p0), some (.int p1)] [] := by
  unfold JJ4_charAt
  refine jr_iload_n K dJ4_charAt_0 rfl ?_
  refine jr_aload_n K dJ4_charAt_1 rfl ?_
  refine jr_slen K hS dJ4_charAt_2 (fun v2 => ?_)
  refine jr_callv0 (jrun_S (As := [.int p1, .int v2]) (st := []) K (metJ3_checkIndex K.hG hS p1 v2 _) mtJ3_checkIndex q891 q890 rfl rfl (Nat.le_of_ble_eq_true rfl) (by decide) ⟨Nat.zero_le _, Nat.zero_le _⟩ dJ4_charAt_3) ?_
  refine jr_aload_n K dJ4_charAt_6 rfl ?_
  refine jr_iload_n K dJ4_charAt_7 rfl ?_
  refine jr_schr K hS dJ4_charAt_8 (fun v8 => ?_)
  refine jr_sipush K dJ4_charAt_9 (v := (nI 255)) (by decide) ?_
  refine jr_iand K dJ4_charAt_12 ?_
  refine jr_i2c K dJ4_charAt_13 ?_
  exact hret _ _ _ _ _ dJ4_charAt_14
theorem metJ4_charAt (hG : jG l D S0 A0) {sK : Nat → Nat} (hS : jSt S0 sK) (p0 : Nat) (p1 : Int32) (Qj : Int32 → JP) : Met l yJ4_charAt (ws_ yJ4_charAt cJ4_charAt 2 (some .char)) (jrm 14 0 0) (va_Pc [.ref p0, .int p1] (jB D S0 (JJ4_charAt sK p0 p1 Qj))) (va_Qi Qj (fun σ t => jRep D S0.heap.size σ t.heap) (jA S0)) 0 0 (jA S0) :=
  jr_start hG (by decide) (Nat.le_of_ble_eq_true rfl) rfl fun p e s m below meth c K hr hn => wJ4_charAt K _ _ sK p0 p1 Qj hS (fun _ _ _ _ _ d => jr_nret K hr d)
theorem wJ3_charAt (K : JK p l R s m args meth c D S0 A0 2 cJ3_charAt "java/lang/String" 15) (bc bs : Nat) (sK : Nat → Nat) (this : Nat) (p1 : Int32) (Qj : Int32 → JP) (hS : jSt S0 sK) (hret : jRetN p l e R s m args below meth c Q D S0 2 cJ3_charAt .char Qj) : JR p l e R s m args below meth c Q D S0 2 bc bs (JJ3_charAt sK this p1 Qj) 0 [some (.ref this), some (.int p1)] [] := by
  unfold JJ3_charAt
  refine jr_aload_n K dJ3_charAt_0 rfl ?_
  refine jr_calli0 (jrun_VS (As := []) (st := []) K hS rfl (metJ3_isLatin1 K.hG hS this _) mtJ3_isLatin1 mvJ3_isLatin1 q883 rfl rfl (Nat.le_of_ble_eq_true rfl) (by decide) ⟨Nat.zero_le _, Nat.zero_le _⟩ dJ3_charAt_1) (fun v1 => ?_)
  refine jr_if_eq K (tgt := 16) dJ3_charAt_4 (by decide) ?_ ?_
  · refine jr_aload_n K dJ3_charAt_16 rfl ?_
    refine jr_sval K hS q2109 dJ3_charAt_17 (fun v17 => ?_)
    refine jr_iload_n K dJ3_charAt_20 rfl ?_
    exact JR.bot
  · refine jr_aload_n K dJ3_charAt_7 rfl ?_
    refine jr_sval K hS q2109 dJ3_charAt_8 (fun v8 => ?_)
    refine jr_iload_n K dJ3_charAt_11 rfl ?_
    refine jr_calli0 (jrun_S (As := [.ref v8, .int p1]) (st := []) K (metJ4_charAt K.hG hS v8 p1 _) mtJ4_charAt q888 q887 rfl rfl (Nat.le_of_ble_eq_true rfl) (by decide) ⟨Nat.zero_le _, Nat.zero_le _⟩ dJ3_charAt_12) (fun v12 => ?_)
    exact hret _ _ _ _ _ dJ3_charAt_15
theorem metJ3_charAt (hG : jG l D S0 A0) {sK : Nat → Nat} (hS : jSt S0 sK) (this : Nat) (p1 : Int32) (Qj : Int32 → JP) : Met l yJ3_charAt (ws_ yJ3_charAt cJ3_charAt 2 (some .char)) (jrm 15 0 0) (va_Pc [.ref this, .int p1] (jB D S0 (JJ3_charAt sK this p1 Qj))) (va_Qi Qj (fun σ t => jRep D S0.heap.size σ t.heap) (jA S0)) 0 0 (jA S0) :=
  jr_start hG (by decide) (Nat.le_of_ble_eq_true rfl) rfl fun p e s m below meth c K hr hn => wJ3_charAt K _ _ sK this p1 Qj hS (fun _ _ _ _ _ d => jr_nret K hr d)
theorem wX3_init (K : JK p l R s m args meth c D S0 A0 1 cX3_init "MoveNotes$Going" 12) (hn : meth.name = "<init>") (bc bs : Nat) (this : Nat) (Qj : JP) (hret : jRetV p l e R s m args below meth c Q D S0 1 cX3_init Qj) : JR p l e R s m args below meth c Q D S0 1 bc bs (JX3_init this Qj) 0 [some (.ref this)] [] := by
  unfold JX3_init
  refine jr_aload_n K dX3_init_0 rfl ?_
  refine jr_objInit K q170 dX3_init_1 (by decide) (Nat.le_of_ble_eq_true rfl) ?_
  exact hret _ _ _ _ dX3_init_4
theorem metX3_init (hG : jG l D S0 A0) (this : Nat) (Qj : JP) : Met l yX3_init (ws_ yX3_init cX3_init 1 none) (jrm 12 0 0) (va_Pc [.ref this] (jB D S0 (JX3_init this Qj))) (va_Qv Qj (fun σ t => jRep D S0.heap.size σ t.heap) (jA S0)) 0 0 (jA S0) :=
  jr_start hG (by decide) (Nat.le_of_ble_eq_true rfl) rfl fun p e s m below meth c K hr hn => wX3_init K hn _ _ this Qj (fun _ _ _ _ d => jr_vret K hr d)
theorem wX4_init (K : JK p l R s m args meth c D S0 A0 1 cX4_init "MoveNotes$Leap" 13) (hn : meth.name = "<init>") (bc bs : Nat) (this : Nat) (Qj : JP) (hret : jRetV p l e R s m args below meth c Q D S0 1 cX4_init Qj) : JR p l e R s m args below meth c Q D S0 1 bc bs (JX4_init this Qj) 0 [some (.ref this)] [] := by
  unfold JX4_init
  refine jr_aload_n K dX4_init_0 rfl ?_
  refine jr_callv0 (jrun_IN (As := []) (st := []) K (metX3_init K.hG this _) mtX3_init q168 rfl q167 rfl rfl (Nat.le_of_ble_eq_true rfl) (by decide) ⟨Nat.zero_le _, Nat.zero_le _⟩ dX4_init_1) ?_
  exact hret _ _ _ _ dX4_init_4
theorem metX4_init (hG : jG l D S0 A0) (this : Nat) (Qj : JP) : Met l yX4_init (ws_ yX4_init cX4_init 1 none) (jrm 13 0 0) (va_Pc [.ref this] (jB D S0 (JX4_init this Qj))) (va_Qv Qj (fun σ t => jRep D S0.heap.size σ t.heap) (jA S0)) 0 0 (jA S0) :=
  jr_start hG (by decide) (Nat.le_of_ble_eq_true rfl) rfl fun p e s m below meth c K hr hn => wX4_init K hn _ _ this Qj (fun _ _ _ _ d => jr_vret K hr d)
theorem wX5_init (K : JK p l R s m args meth c D S0 A0 1 cX5_init "MoveNotes$Bite" 13) (hn : meth.name = "<init>") (bc bs : Nat) (this : Nat) (Qj : JP) (hret : jRetV p l e R s m args below meth c Q D S0 1 cX5_init Qj) : JR p l e R s m args below meth c Q D S0 1 bc bs (JX5_init this Qj) 0 [some (.ref this)] [] := by
  unfold JX5_init
  refine jr_aload_n K dX5_init_0 rfl ?_
  refine jr_callv0 (jrun_IN (As := []) (st := []) K (metX3_init K.hG this _) mtX3_init q168 rfl q178 rfl rfl (Nat.le_of_ble_eq_true rfl) (by decide) ⟨Nat.zero_le _, Nat.zero_le _⟩ dX5_init_1) ?_
  exact hret _ _ _ _ dX5_init_4
theorem metX5_init (hG : jG l D S0 A0) (this : Nat) (Qj : JP) : Met l yX5_init (ws_ yX5_init cX5_init 1 none) (jrm 13 0 0) (va_Pc [.ref this] (jB D S0 (JX5_init this Qj))) (va_Qv Qj (fun σ t => jRep D S0.heap.size σ t.heap) (jA S0)) 0 0 (jA S0) :=
  jr_start hG (by decide) (Nat.le_of_ble_eq_true rfl) rfl fun p e s m below meth c K hr hn => wX5_init K hn _ _ this Qj (fun _ _ _ _ d => jr_vret K hr d)
theorem wX6_init (K : JK p l R s m args meth c D S0 A0 1 cX6_init "MoveNotes$Wrong" 15) (hn : meth.name = "<init>") (bc bs : Nat) (this : Nat) (Qj : JP) (hret : jRetV p l e R s m args below meth c Q D S0 1 cX6_init Qj) : JR p l e R s m args below meth c Q D S0 1 bc bs (JX6_init this Qj) 0 [some (.ref this)] [] := by
  unfold JX6_init
  refine jr_aload_n K dX6_init_0 rfl ?_
  refine jr_null K dX6_init_1 ?_
  refine jr_null K dX6_init_2 ?_
  refine jr_iconst K dX6_init_3 (v := (nI 0)) (by decide) ?_
  refine jr_iconst K dX6_init_4 (v := (nI 0)) (by decide) ?_
  refine jr_callv0 (jrun_I (As := [va_rf none, va_rf none, .int (nI 0), .int (nI 0)]) (st := []) K (metJ2_init K.hG this none none (nI 0) (nI 0) _) mtJ2_init q228 rfl q227 rfl rfl (by simp only [List.map, jcat_rf]; exact Nat.le_of_ble_eq_true rfl) (by decide) ⟨Nat.zero_le _, Nat.zero_le _⟩ dX6_init_5) ?_
  exact hret _ _ _ _ dX6_init_8
theorem metX6_init (hG : jG l D S0 A0) (this : Nat) (Qj : JP) : Met l yX6_init (ws_ yX6_init cX6_init 1 none) (jrm 15 0 0) (va_Pc [.ref this] (jB D S0 (JX6_init this Qj))) (va_Qv Qj (fun σ t => jRep D S0.heap.size σ t.heap) (jA S0)) 0 0 (jA S0) :=
  jr_start hG (by decide) (Nat.le_of_ble_eq_true rfl) rfl fun p e s m below meth c K hr hn => wX6_init K hn _ _ this Qj (fun _ _ _ _ d => jr_vret K hr d)
theorem wX8_init_22 (K : JK p l R s m args meth c D S0 A0 2 cX8_init "MoveNotes$Board" 12) (hn : meth.name = "<init>") (bc : Nat) (bs : Nat) (this : Nat) (Qj : JP) (hret : jRetV p l e R s m args below meth c Q D S0 2 cX8_init Qj) : ∀ (n : Nat) (x1_22 : Int32), JR p l e R s m args below meth c Q D S0 2 ((bc - 1) - 1) ((bs - (nI 36).toNatClampNeg) - (nI 36).toNatClampNeg) (jit (FX8_init_22 this Qj) (fun _ => jbot) n x1_22) 22 [some (.ref this), some (.int x1_22)] [] := by
  intro n
  induction n with
  | zero =>
    intro x1_22
    exact JR.bot
  | succ n ih22 =>
    intro x1_22
    show JR p l e R s m args below meth c Q D S0 2 ((bc - 1) - 1) ((bs - (nI 36).toNatClampNeg) - (nI 36).toNatClampNeg) (FX8_init_22 this Qj (jit (FX8_init_22 this Qj) (fun _ => jbot) n) x1_22) 22 [some (.ref this), some (.int x1_22)] []
    generalize jit (FX8_init_22 this Qj) (fun _ => jbot) n = rec22 at ih22 ⊢
    unfold FX8_init_22
    refine jr_iload_n K dX8_init_22 rfl ?_
    refine jr_bipush K dX8_init_23 (v := (nI 36)) (by decide) ?_
    refine jr_icmp_ge K (tgt := 41) dX8_init_25 (by decide) ?_ ?_
    · exact hret _ _ _ _ dX8_init_41
    · refine jr_aload_n K dX8_init_28 rfl ?_
      refine jr_getA K gf_X8_9 dX8_init_29 (fun v29 => ?_)
      refine jr_iload_n K dX8_init_32 rfl ?_
      refine jr_iconst K dX8_init_33 (v := (-1)) (by decide) ?_
      refine jr_iast K dX8_init_34 ?_
      refine jr_iinc K (v := (x1_22 + (nI 1))) (L' := [some (.ref this), some (.int (x1_22 + (nI 1)))]) dX8_init_35 rfl rfl (by decide) rfl rfl ?_
      refine jr_goto K (tgt := 22) dX8_init_38 (by decide) ?_
      exact jr_weak (ih22 (x1_22 + (nI 1))) ⟨rfl, rfl, trivial⟩
theorem wX8_init (K : JK p l R s m args meth c D S0 A0 2 cX8_init "MoveNotes$Board" 12) (hn : meth.name = "<init>") (bc : Nat) (bs : Nat) (this : Nat) (Qj : JP) (hret : jRetV p l e R s m args below meth c Q D S0 2 cX8_init Qj) : JR p l e R s m args below meth c Q D S0 2 bc bs (JX8_init bc bs this Qj) 0 [some (.ref this), none] [] := by
  unfold JX8_init
  refine jr_aload_n K dX8_init_0 rfl ?_
  refine jr_objInit K q301 dX8_init_1 (by decide) (Nat.le_of_ble_eq_true rfl) ?_
  refine jr_aload_n K dX8_init_4 rfl ?_
  refine jr_bipush K dX8_init_5 (v := (nI 36)) (by decide) ?_
  refine jr_newI K dX8_init_7 (fun v7 => ?_)
  refine jr_put K (pf_X8_9 hn) dX8_init_9 rfl rfl ?_
  refine jr_aload_n K dX8_init_12 rfl ?_
  refine jr_bipush K dX8_init_13 (v := (nI 36)) (by decide) ?_
  refine jr_newI K dX8_init_15 (fun v15 => ?_)
  refine jr_put K (pf_X8_15 hn) dX8_init_17 rfl rfl ?_
  refine jr_iconst K dX8_init_20 (v := (nI 0)) (by decide) ?_
  refine jr_istore_n K (L' := [some (.ref this), some (.int (nI 0))]) dX8_init_21 (by decide) rfl rfl ?_
  refine jr_ex (fun n22 => ?_)
  refine jr_weak (wX8_init_22 K hn bc bs this Qj hret n22 (nI 0)) ⟨rfl, rfl, trivial⟩
theorem metX8_init (hG : jG l D S0 A0) (bc : Nat) (bs : Nat) (this : Nat) (Qj : JP) : Met l yX8_init (ws_ yX8_init cX8_init 2 none) (jrm 12 bc bs) (va_Pc [.ref this] (jB D S0 (JX8_init bc bs this Qj))) (va_Qv Qj (fun σ t => jRep D S0.heap.size σ t.heap) (jA S0)) bc bs (jA S0) :=
  jr_start hG (by decide) (Nat.le_of_ble_eq_true rfl) rfl fun p e s m below meth c K hr hn => wX8_init K hn bc bs this Qj (fun _ _ _ _ d => jr_vret K hr d)
theorem wX9_init (K : JK p l R s m args meth c D S0 A0 1 cX9_init "MoveNotes$Book" 12) (hn : meth.name = "<init>") (bc : Nat) (bs : Nat) (this : Nat) (Qj : JP) (hret : jRetV p l e R s m args below meth c Q D S0 1 cX9_init Qj) : JR p l e R s m args below meth c Q D S0 1 bc bs (JX9_init bc bs this Qj) 0 [some (.ref this)] [] := by
  unfold JX9_init
  refine jr_aload_n K dX9_init_0 rfl ?_
  refine jr_objInit K q330 dX9_init_1 (by decide) (Nat.le_of_ble_eq_true rfl) ?_
  refine jr_aload_n K dX9_init_4 rfl ?_
  refine jr_bipush K dX9_init_5 (v := (nI 24)) (by decide) ?_
  refine jr_newA K (by decide) rfl q331 q332 dX9_init_7 (fun v7 => ?_)
  refine jr_put K (pf_X9_11 hn) dX9_init_10 rfl rfl ?_
  exact hret _ _ _ _ dX9_init_13
theorem metX9_init (hG : jG l D S0 A0) (bc : Nat) (bs : Nat) (this : Nat) (Qj : JP) : Met l yX9_init (ws_ yX9_init cX9_init 1 none) (jrm 12 bc bs) (va_Pc [.ref this] (jB D S0 (JX9_init bc bs this Qj))) (va_Qv Qj (fun σ t => jRep D S0.heap.size σ t.heap) (jA S0)) bc bs (jA S0) :=
  jr_start hG (by decide) (Nat.le_of_ble_eq_true rfl) rfl fun p e s m below meth c K hr hn => wX9_init K hn bc bs this Qj (fun _ _ _ _ d => jr_vret K hr d)
theorem wX7_init_55 (K : JK p l R s m args meth c D S0 A0 2 cX7_init "MoveNotes$State" 13) (hn : meth.name = "<init>") (bc : Nat) (bs : Nat) (this : Nat) (Qj : JP) (hret : jRetV p l e R s m args below meth c Q D S0 2 cX7_init Qj) : ∀ (n : Nat) (x1_55 : Int32) (bc_55 : Nat) (bs_55 : Nat), JR p l e R s m args below meth c Q D S0 2 bc_55 bs_55 (jit (FX7_init_55 this Qj) (fun _ _ _ => jbot) n x1_55 bc_55 bs_55) 55 [some (.ref this), some (.int x1_55)] [] := by
  intro n
  induction n with
  | zero =>
    intro x1_55 bc_55 bs_55
    exact JR.bot
  | succ n ih55 =>
    intro x1_55 bc_55 bs_55
    show JR p l e R s m args below meth c Q D S0 2 bc_55 bs_55 (FX7_init_55 this Qj (jit (FX7_init_55 this Qj) (fun _ _ _ => jbot) n) x1_55 bc_55 bs_55) 55 [some (.ref this), some (.int x1_55)] []
    generalize jit (FX7_init_55 this Qj) (fun _ _ _ => jbot) n = rec55 at ih55 ⊢
    unfold FX7_init_55
    refine jr_iload_n K dX7_init_55 rfl ?_
    refine jr_iconst K dX7_init_56 (v := (nI 3)) (by decide) ?_
    refine jr_icmp_ge K (tgt := 79) dX7_init_57 (by decide) ?_ ?_
    · exact hret _ _ _ _ dX7_init_79
    · refine jr_aload_n K dX7_init_60 rfl ?_
      refine jr_getA K gf_X7_26 dX7_init_61 (fun v61 => ?_)
      refine jr_iload_n K dX7_init_64 rfl ?_
      refine jr_new K in_X9 rfl tyX9_ok dfo9 q322 q326 q110 dX7_init_65 (fun v65 => ?_)
      refine jr_dup K dX7_init_68 rfl ?_
      refine jr_bud (fun mc69 ms69 hmc69 hms69 => ?_)
      refine jr_callv ⟨hmc69, hms69⟩ (jrun_IN (As := []) (st := [.ref v65, .int x1_55, .ref v61]) K (metX9_init K.hG mc69 ms69 v65 _) mtX9_init q328 rfl q327 rfl rfl (Nat.le_of_ble_eq_true rfl) (by decide) ⟨hmc69, hms69⟩ dX7_init_69) ?_
      refine jr_aast K (by decide) jfit_8_9 dX7_init_72 ?_
      refine jr_iinc K (v := (x1_55 + (nI 1))) (L' := [some (.ref this), some (.int (x1_55 + (nI 1)))]) dX7_init_73 rfl rfl (by decide) rfl rfl ?_
      refine jr_goto K (tgt := 55) dX7_init_76 (by decide) ?_
      exact jr_weak (ih55 (x1_55 + (nI 1)) ((bc_55 - 1) - mc69) ((bs_55 - 3) - ms69)) ⟨rfl, rfl, trivial⟩
theorem wX7_init (K : JK p l R s m args meth c D S0 A0 2 cX7_init "MoveNotes$State" 13) (hn : meth.name = "<init>") (bc : Nat) (bs : Nat) (this : Nat) (Qj : JP) (hret : jRetV p l e R s m args below meth c Q D S0 2 cX7_init Qj) : JR p l e R s m args below meth c Q D S0 2 bc bs (JX7_init bc bs this Qj) 0 [some (.ref this), none] [] := by
  unfold JX7_init
  refine jr_aload_n K dX7_init_0 rfl ?_
  refine jr_objInit K q293 dX7_init_1 (by decide) (Nat.le_of_ble_eq_true rfl) ?_
  refine jr_aload_n K dX7_init_4 rfl ?_
  refine jr_iconst K dX7_init_5 (v := (nI 5)) (by decide) ?_
  refine jr_newA K (by decide) rfl q294 q295 dX7_init_6 (fun v6 => ?_)
  refine jr_put K (pf_X7_11 hn) dX7_init_9 rfl rfl ?_
  refine jr_aload_n K dX7_init_12 rfl ?_
  refine jr_new K in_X8 rfl tyX8_ok dfo8 q296 q297 q109 dX7_init_13 (fun v13 => ?_)
  refine jr_dup K dX7_init_16 rfl ?_
  refine jr_bud (fun mc17 ms17 hmc17 hms17 => ?_)
  refine jr_callv ⟨hmc17, hms17⟩ (jrun_I (As := []) (st := [.ref v13, .ref this]) K (metX8_init K.hG mc17 ms17 v13 _) mtX8_init q299 rfl q298 rfl rfl (Nat.le_of_ble_eq_true rfl) (by decide) ⟨hmc17, hms17⟩ dX7_init_17) ?_
  refine jr_put K (pf_X7_20 hn) dX7_init_20 rfl rfl ?_
  refine jr_aload_n K dX7_init_23 rfl ?_
  refine jr_iconst K dX7_init_24 (v := (nI 3)) (by decide) ?_
  refine jr_newA K (by decide) rfl q322 q323 dX7_init_25 (fun v25 => ?_)
  refine jr_put K (pf_X7_26 hn) dX7_init_28 rfl rfl ?_
  refine jr_aload_n K dX7_init_31 rfl ?_
  refine jr_bipush K dX7_init_32 (v := (nI 10)) (by decide) ?_
  refine jr_newA K (by decide) rfl q324 q325 dX7_init_34 (fun v34 => ?_)
  refine jr_put K (pf_X7_32 hn) dX7_init_37 rfl rfl ?_
  refine jr_aload_n K dX7_init_40 rfl ?_
  refine jr_bipush K dX7_init_41 (v := (nI 8)) (by decide) ?_
  refine jr_newI K dX7_init_43 (fun v43 => ?_)
  refine jr_put K (pf_X7_36 hn) dX7_init_45 rfl rfl ?_
  refine jr_aload_n K dX7_init_48 rfl ?_
  refine jr_iconst K dX7_init_49 (v := (-1)) (by decide) ?_
  refine jr_put K pf_X7_40 dX7_init_50 rfl rfl ?_
  refine jr_iconst K dX7_init_53 (v := (nI 0)) (by decide) ?_
  refine jr_istore_n K (L' := [some (.ref this), some (.int (nI 0))]) dX7_init_54 (by decide) rfl rfl ?_
  refine jr_ex (fun n55 => ?_)
  refine jr_weak (wX7_init_55 K hn bc bs this Qj hret n55 (nI 0) ((((((bc - 1) - 1) - mc17) - 1) - 1) - 1) ((((((bs - (nI 5).toNatClampNeg) - 2) - ms17) - (nI 3).toNatClampNeg) - (nI 10).toNatClampNeg) - (nI 8).toNatClampNeg)) ⟨rfl, rfl, trivial⟩
theorem metX7_init (hG : jG l D S0 A0) (bc : Nat) (bs : Nat) (this : Nat) (Qj : JP) : Met l yX7_init (ws_ yX7_init cX7_init 2 none) (jrm 13 bc bs) (va_Pc [.ref this] (jB D S0 (JX7_init bc bs this Qj))) (va_Qv Qj (fun σ t => jRep D S0.heap.size σ t.heap) (jA S0)) bc bs (jA S0) :=
  jr_start hG (by decide) (Nat.le_of_ble_eq_true rfl) rfl fun p e s m below meth c K hr hn => wX7_init K hn bc bs this Qj (fun _ _ _ _ d => jr_vret K hr d)
theorem wX13_init (K : JK p l R s m args meth c D S0 A0 2 cX13_init "MoveNotes$Straight" 13) (hn : meth.name = "<init>") (bc bs : Nat) (this : Nat) (p1 : Int32) (Qj : JP) (hret : jRetV p l e R s m args below meth c Q D S0 2 cX13_init Qj) : JR p l e R s m args below meth c Q D S0 2 bc bs (JX13_init this p1 Qj) 0 [some (.ref this), some (.int p1)] [] := by
  unfold JX13_init
  refine jr_aload_n K dX13_init_0 rfl ?_
  refine jr_callv0 (jrun_IN (As := []) (st := []) K (metX3_init K.hG this _) mtX3_init q168 rfl q926 rfl rfl (Nat.le_of_ble_eq_true rfl) (by decide) ⟨Nat.zero_le _, Nat.zero_le _⟩ dX13_init_1) ?_
  refine jr_aload_n K dX13_init_4 rfl ?_
  refine jr_iload_n K dX13_init_5 rfl ?_
  refine jr_put K (pf_X13_7 hn) dX13_init_6 rfl rfl ?_
  exact hret _ _ _ _ dX13_init_9
theorem metX13_init (hG : jG l D S0 A0) (this : Nat) (p1 : Int32) (Qj : JP) : Met l yX13_init (ws_ yX13_init cX13_init 2 none) (jrm 13 0 0) (va_Pc [.ref this, .int p1] (jB D S0 (JX13_init this p1 Qj))) (va_Qv Qj (fun σ t => jRep D S0.heap.size σ t.heap) (jA S0)) 0 0 (jA S0) :=
  jr_start hG (by decide) (Nat.le_of_ble_eq_true rfl) rfl fun p e s m below meth c K hr hn => wX13_init K hn _ _ this p1 Qj (fun _ _ _ _ d => jr_vret K hr d)
theorem wX14_init (K : JK p l R s m args meth c D S0 A0 2 cX14_init "MoveNotes$Slant" 13) (hn : meth.name = "<init>") (bc bs : Nat) (this : Nat) (p1 : Int32) (Qj : JP) (hret : jRetV p l e R s m args below meth c Q D S0 2 cX14_init Qj) : JR p l e R s m args below meth c Q D S0 2 bc bs (JX14_init this p1 Qj) 0 [some (.ref this), some (.int p1)] [] := by
  unfold JX14_init
  refine jr_aload_n K dX14_init_0 rfl ?_
  refine jr_callv0 (jrun_IN (As := []) (st := []) K (metX3_init K.hG this _) mtX3_init q168 rfl q937 rfl rfl (Nat.le_of_ble_eq_true rfl) (by decide) ⟨Nat.zero_le _, Nat.zero_le _⟩ dX14_init_1) ?_
  refine jr_aload_n K dX14_init_4 rfl ?_
  refine jr_iload_n K dX14_init_5 rfl ?_
  refine jr_put K (pf_X14_7 hn) dX14_init_6 rfl rfl ?_
  exact hret _ _ _ _ dX14_init_9
theorem metX14_init (hG : jG l D S0 A0) (this : Nat) (p1 : Int32) (Qj : JP) : Met l yX14_init (ws_ yX14_init cX14_init 2 none) (jrm 13 0 0) (va_Pc [.ref this, .int p1] (jB D S0 (JX14_init this p1 Qj))) (va_Qv Qj (fun σ t => jRep D S0.heap.size σ t.heap) (jA S0)) 0 0 (jA S0) :=
  jr_start hG (by decide) (Nat.le_of_ble_eq_true rfl) rfl fun p e s m below meth c K hr hn => wX14_init K hn _ _ this p1 Qj (fun _ _ _ _ d => jr_vret K hr d)
theorem wX15_init (K : JK p l R s m args meth c D S0 A0 2 cX15_init "MoveNotes$Ahead" 13) (hn : meth.name = "<init>") (bc bs : Nat) (this : Nat) (p1 : Int32) (Qj : JP) (hret : jRetV p l e R s m args below meth c Q D S0 2 cX15_init Qj) : JR p l e R s m args below meth c Q D S0 2 bc bs (JX15_init this p1 Qj) 0 [some (.ref this), some (.int p1)] [] := by
  unfold JX15_init
  refine jr_aload_n K dX15_init_0 rfl ?_
  refine jr_callv0 (jrun_IN (As := []) (st := []) K (metX3_init K.hG this _) mtX3_init q168 rfl q948 rfl rfl (Nat.le_of_ble_eq_true rfl) (by decide) ⟨Nat.zero_le _, Nat.zero_le _⟩ dX15_init_1) ?_
  refine jr_aload_n K dX15_init_4 rfl ?_
  refine jr_iload_n K dX15_init_5 rfl ?_
  refine jr_put K (pf_X15_7 hn) dX15_init_6 rfl rfl ?_
  exact hret _ _ _ _ dX15_init_9
theorem metX15_init (hG : jG l D S0 A0) (this : Nat) (p1 : Int32) (Qj : JP) : Met l yX15_init (ws_ yX15_init cX15_init 2 none) (jrm 13 0 0) (va_Pc [.ref this, .int p1] (jB D S0 (JX15_init this p1 Qj))) (va_Qv Qj (fun σ t => jRep D S0.heap.size σ t.heap) (jA S0)) 0 0 (jA S0) :=
  jr_start hG (by decide) (Nat.le_of_ble_eq_true rfl) rfl fun p e s m below meth c K hr hn => wX15_init K hn _ _ this p1 Qj (fun _ _ _ _ d => jr_vret K hr d)
theorem wX18_init (K : JK p l R s m args meth c D S0 A0 2 cX18_init "MoveNotes$Tag" 12) (hn : meth.name = "<init>") (bc bs : Nat) (this : Nat) (p1 : Int32) (Qj : JP) (hret : jRetV p l e R s m args below meth c Q D S0 2 cX18_init Qj) : JR p l e R s m args below meth c Q D S0 2 bc bs (JX18_init this p1 Qj) 0 [some (.ref this), some (.int p1)] [] := by
  unfold JX18_init
  refine jr_aload_n K dX18_init_0 rfl ?_
  refine jr_objInit K q987 dX18_init_1 (by decide) (Nat.le_of_ble_eq_true rfl) ?_
  refine jr_aload_n K dX18_init_4 rfl ?_
  refine jr_iload_n K dX18_init_5 rfl ?_
  refine jr_put K (pf_X18_7 hn) dX18_init_6 rfl rfl ?_
  exact hret _ _ _ _ dX18_init_9
theorem metX18_init (hG : jG l D S0 A0) (this : Nat) (p1 : Int32) (Qj : JP) : Met l yX18_init (ws_ yX18_init cX18_init 2 none) (jrm 12 0 0) (va_Pc [.ref this, .int p1] (jB D S0 (JX18_init this p1 Qj))) (va_Qv Qj (fun σ t => jRep D S0.heap.size σ t.heap) (jA S0)) 0 0 (jA S0) :=
  jr_start hG (by decide) (Nat.le_of_ble_eq_true rfl) rfl fun p e s m below meth c K hr hn => wX18_init K hn _ _ this p1 Qj (fun _ _ _ _ d => jr_vret K hr d)
theorem wX19_init (K : JK p l R s m args meth c D S0 A0 1 cX19_init "MoveNotes$Sum" 12) (hn : meth.name = "<init>") (bc : Nat) (bs : Nat) (this : Nat) (Qj : JP) (hret : jRetV p l e R s m args below meth c Q D S0 1 cX19_init Qj) : JR p l e R s m args below meth c Q D S0 1 bc bs (JX19_init bc bs this Qj) 0 [some (.ref this)] [] := by
  unfold JX19_init
  refine jr_aload_n K dX19_init_0 rfl ?_
  refine jr_objInit K q1002 dX19_init_1 (by decide) (Nat.le_of_ble_eq_true rfl) ?_
  refine jr_aload_n K dX19_init_4 rfl ?_
  refine jr_iconst K dX19_init_5 (v := (nI 4)) (by decide) ?_
  refine jr_newI K dX19_init_6 (fun v6 => ?_)
  refine jr_put K (pf_X19_9 hn) dX19_init_8 rfl rfl ?_
  exact hret _ _ _ _ dX19_init_11
theorem metX19_init (hG : jG l D S0 A0) (bc : Nat) (bs : Nat) (this : Nat) (Qj : JP) : Met l yX19_init (ws_ yX19_init cX19_init 1 none) (jrm 12 bc bs) (va_Pc [.ref this] (jB D S0 (JX19_init bc bs this Qj))) (va_Qv Qj (fun σ t => jRep D S0.heap.size σ t.heap) (jA S0)) bc bs (jA S0) :=
  jr_start hG (by decide) (Nat.le_of_ble_eq_true rfl) rfl fun p e s m below meth c K hr hn => wX19_init K hn bc bs this Qj (fun _ _ _ _ d => jr_vret K hr d)
theorem wX12_init (K : JK p l R s m args meth c D S0 A0 4 cX12_init "MoveNotes$Kind" 12) (hn : meth.name = "<init>") (bc : Nat) (bs : Nat) (this : Nat) (p1 : Int32) (p2 : Nat) (p3 : Int32) (Qj : JP) (hret : jRetV p l e R s m args below meth c Q D S0 4 cX12_init Qj) : JR p l e R s m args below meth c Q D S0 4 bc bs (JX12_init bc bs this p1 p2 p3 Qj) 0 [some (.ref this), some (.int p1), some (.ref p2), some (.int p3)] [] := by
  unfold JX12_init
  refine jr_aload_n K dX12_init_0 rfl ?_
  refine jr_objInit K q1073 dX12_init_1 (by decide) (Nat.le_of_ble_eq_true rfl) ?_
  refine jr_aload_n K dX12_init_4 rfl ?_
  refine jr_iload_n K dX12_init_5 rfl ?_
  refine jr_put K (pf_X12_7 hn) dX12_init_6 rfl rfl ?_
  refine jr_aload_n K dX12_init_9 rfl ?_
  refine jr_iload_n K dX12_init_10 rfl ?_
  refine jr_newA K (by decide) rfl q1074 q159 dX12_init_11 (fun v11 => ?_)
  refine jr_put K (pf_X12_15 hn) dX12_init_14 rfl rfl ?_
  refine jr_aload_n K dX12_init_17 rfl ?_
  refine jr_iconst K dX12_init_18 (v := (nI 0)) (by decide) ?_
  refine jr_aload_n K dX12_init_19 rfl ?_
  refine jr_getA K gf_X12_15 dX12_init_20 (fun v20 => ?_)
  refine jr_iconst K dX12_init_23 (v := (nI 0)) (by decide) ?_
  refine jr_iload_n K dX12_init_24 rfl ?_
  refine jr_cpyA K (by decide) rfl q1075 (by decide) (Nat.le_of_ble_eq_true rfl) dX12_init_25 ?_
  exact hret _ _ _ _ dX12_init_28
theorem metX12_init (hG : jG l D S0 A0) (bc : Nat) (bs : Nat) (this : Nat) (p1 : Int32) (p2 : Nat) (p3 : Int32) (Qj : JP) : Met l yX12_init (ws_ yX12_init cX12_init 4 none) (jrm 12 bc bs) (va_Pc [.ref this, .int p1, .ref p2, .int p3] (jB D S0 (JX12_init bc bs this p1 p2 p3 Qj))) (va_Qv Qj (fun σ t => jRep D S0.heap.size σ t.heap) (jA S0)) bc bs (jA S0) :=
  jr_start hG (by decide) (Nat.le_of_ble_eq_true rfl) rfl fun p e s m below meth c K hr hn => wX12_init K hn bc bs this p1 p2 p3 Qj (fun _ _ _ _ d => jr_vret K hr d)
theorem wX4_marks_3 (K : JK p l R s m args meth c D S0 A0 8 cX4_marks "MoveNotes$Leap" 12) (bc bs : Nat) (p1 : Nat) (p2 : Int32) (p3 : Int32) (p4 : Nat) (Qj : JP) (hret : jRetV p l e R s m args below meth c Q D S0 8 cX4_marks Qj) : ∀ (n : Nat) (x5_3 : Int32), JR p l e R s m args below meth c Q D S0 8 bc bs (jit (FX4_marks_3 p1 p2 p3 p4 Qj) (fun _ => jbot) n x5_3) 3 [none, some (.ref p1), some (.int p2), some (.int p3), some (.ref p4), some (.int x5_3), none, none] [] := by
  intro n
  induction n with
  | zero =>
    intro x5_3
    exact JR.bot
  | succ n ih3 =>
    intro x5_3
    show JR p l e R s m args below meth c Q D S0 8 bc bs (FX4_marks_3 p1 p2 p3 p4 Qj (jit (FX4_marks_3 p1 p2 p3 p4 Qj) (fun _ => jbot) n) x5_3) 3 [none, some (.ref p1), some (.int p2), some (.int p3), some (.ref p4), some (.int x5_3), none, none] []
    generalize jit (FX4_marks_3 p1 p2 p3 p4 Qj) (fun _ => jbot) n = rec3 at ih3 ⊢
    unfold FX4_marks_3
    refine jr_iload K dX4_marks_3 rfl ?_
    refine jr_bipush K dX4_marks_5 (v := (nI 36)) (by decide) ?_
    refine jr_icmp_ge K (tgt := 83) dX4_marks_7 (by decide) ?_ ?_
    · exact hret _ _ _ _ dX4_marks_83
    · refine jr_iload K dX4_marks_10 rfl ?_
      refine jr_bipush K dX4_marks_12 (v := (nI 6)) (by decide) ?_
      refine jr_irem K dX4_marks_14 (by decide) ?_
      refine jr_iload_n K dX4_marks_15 rfl ?_
      refine jr_bipush K dX4_marks_16 (v := (nI 6)) (by decide) ?_
      refine jr_irem K dX4_marks_18 (by decide) ?_
      refine jr_isub K dX4_marks_19 ?_
      refine jr_abs K q691 (by decide) (Nat.le_of_ble_eq_true rfl) dX4_marks_20 ?_
      refine jr_istore K (L' := [none, some (.ref p1), some (.int p2), some (.int p3), some (.ref p4), some (.int x5_3), some (.int (jabs ((jrem x5_3 (nI 6)) - (jrem p2 (nI 6))))), none]) dX4_marks_23 (by decide) rfl rfl ?_
      refine jr_iload K dX4_marks_25 rfl ?_
      refine jr_bipush K dX4_marks_27 (v := (nI 6)) (by decide) ?_
      refine jr_idiv K dX4_marks_29 (by decide) ?_
      refine jr_iload_n K dX4_marks_30 rfl ?_
      refine jr_bipush K dX4_marks_31 (v := (nI 6)) (by decide) ?_
      refine jr_idiv K dX4_marks_33 (by decide) ?_
      refine jr_isub K dX4_marks_34 ?_
      refine jr_abs K q691 (by decide) (Nat.le_of_ble_eq_true rfl) dX4_marks_35 ?_
      refine jr_istore K (L' := [none, some (.ref p1), some (.int p2), some (.int p3), some (.ref p4), some (.int x5_3), some (.int (jabs ((jrem x5_3 (nI 6)) - (jrem p2 (nI 6))))), some (.int (jabs ((x5_3 / (nI 6)) - (p2 / (nI 6)))))]) dX4_marks_38 (by decide) rfl rfl ?_
      refine jr_iload K dX4_marks_40 rfl ?_
      refine jr_iload K dX4_marks_42 rfl ?_
      refine jr_imul K dX4_marks_44 ?_
      refine jr_iconst K dX4_marks_45 (v := (nI 2)) (by decide) ?_
      refine jr_join (fun (k77 : JP) => JR p l e R s m args below meth c Q D S0 8 bc bs k77 77 [none, some (.ref p1), some (.int p2), some (.int p3), some (.ref p4), some (.int x5_3), none, none] []) ?_ (fun k77 hk77 => ?_)
      · refine jr_iinc K (v := (x5_3 + (nI 1))) (L' := [none, some (.ref p1), some (.int p2), some (.int p3), some (.ref p4), some (.int (x5_3 + (nI 1))), none, none]) dX4_marks_77 rfl rfl (by decide) rfl rfl ?_
        refine jr_goto K (tgt := 3) dX4_marks_80 (by decide) ?_
        exact jr_weak (ih3 (x5_3 + (nI 1))) ⟨rfl, rfl, rfl, rfl, rfl, trivial⟩
      refine jr_icmp_ne K (tgt := 77) dX4_marks_46 (by decide) ?_ ?_
      · exact jr_weak (hk77) ⟨rfl, rfl, rfl, rfl, rfl, trivial⟩
      · refine jr_aload_n K dX4_marks_49 rfl ?_
        refine jr_getA K gf_X4_15 dX4_marks_50 (fun v50 => ?_)
        refine jr_iload K dX4_marks_53 rfl ?_
        refine jr_iald K dX4_marks_55 (fun v55 => ?_)
        refine jr_iconst K dX4_marks_56 (v := (-1)) (by decide) ?_
        refine jr_join (fun (k71 : JP) => JR p l e R s m args below meth c Q D S0 8 bc bs k71 71 [none, some (.ref p1), some (.int p2), some (.int p3), some (.ref p4), some (.int x5_3), none, none] []) ?_ (fun k71 hk71 => ?_)
        · refine jr_aload K dX4_marks_71 rfl ?_
          refine jr_iload K dX4_marks_73 rfl ?_
          refine jr_iconst K dX4_marks_75 (v := (nI 1)) (by decide) ?_
          refine jr_zast K dX4_marks_76 ?_
          exact jr_weak (hk77) ⟨rfl, rfl, rfl, rfl, rfl, trivial⟩
        refine jr_icmp_eq K (tgt := 71) dX4_marks_57 (by decide) ?_ ?_
        · exact jr_weak (hk71) ⟨rfl, rfl, rfl, rfl, rfl, trivial⟩
        · refine jr_aload_n K dX4_marks_60 rfl ?_
          refine jr_getA K gf_X4_21 dX4_marks_61 (fun v61 => ?_)
          refine jr_iload K dX4_marks_64 rfl ?_
          refine jr_iald K dX4_marks_66 (fun v66 => ?_)
          refine jr_iload_n K dX4_marks_67 rfl ?_
          refine jr_icmp_eq K (tgt := 77) dX4_marks_68 (by decide) ?_ ?_
          · exact jr_weak (hk77) ⟨rfl, rfl, rfl, rfl, rfl, trivial⟩
          · exact jr_weak (hk71) ⟨rfl, rfl, rfl, rfl, rfl, trivial⟩
theorem wX4_marks (K : JK p l R s m args meth c D S0 A0 8 cX4_marks "MoveNotes$Leap" 12) (bc bs : Nat) (this : Nat) (p1 : Nat) (p2 : Int32) (p3 : Int32) (p4 : Nat) (Qj : JP) (hret : jRetV p l e R s m args below meth c Q D S0 8 cX4_marks Qj) : JR p l e R s m args below meth c Q D S0 8 bc bs (JX4_marks this p1 p2 p3 p4 Qj) 0 [some (.ref this), some (.ref p1), some (.int p2), some (.int p3), some (.ref p4), none, none, none] [] := by
  unfold JX4_marks
  refine jr_iconst K dX4_marks_0 (v := (nI 0)) (by decide) ?_
  refine jr_istore K (L' := [some (.ref this), some (.ref p1), some (.int p2), some (.int p3), some (.ref p4), some (.int (nI 0)), none, none]) dX4_marks_1 (by decide) rfl rfl ?_
  refine jr_ex (fun n3 => ?_)
  refine jr_weak (wX4_marks_3 K bc bs p1 p2 p3 p4 Qj hret n3 (nI 0)) ⟨rfl, rfl, rfl, rfl, rfl, trivial⟩
theorem metX4_marks (hG : jG l D S0 A0) (this : Nat) (p1 : Nat) (p2 : Int32) (p3 : Int32) (p4 : Nat) (Qj : JP) : Met l yX4_marks (ws_ yX4_marks cX4_marks 8 none) (jrm 12 0 0) (va_Pc [.ref this, .ref p1, .int p2, .int p3, .ref p4] (jB D S0 (JX4_marks this p1 p2 p3 p4 Qj))) (va_Qv Qj (fun σ t => jRep D S0.heap.size σ t.heap) (jA S0)) 0 0 (jA S0) :=
  jr_start hG (by decide) (Nat.le_of_ble_eq_true rfl) rfl fun p e s m below meth c K hr hn => wX4_marks K _ _ this p1 p2 p3 p4 Qj (fun _ _ _ _ d => jr_vret K hr d)
theorem wX5_marks_24 (K : JK p l R s m args meth c D S0 A0 8 cX5_marks "MoveNotes$Bite" 12) (bc bs : Nat) (p1 : Nat) (p2 : Int32) (p3 : Int32) (p4 : Nat) (Qj : JP) (s1_13 : Int32) (hret : jRetV p l e R s m args below meth c Q D S0 8 cX5_marks Qj) : ∀ (n : Nat) (x6_24 : Int32), JR p l e R s m args below meth c Q D S0 8 bc bs (jit (FX5_marks_24 p1 p2 p3 p4 Qj s1_13) (fun _ => jbot) n x6_24) 24 [none, some (.ref p1), some (.int p2), some (.int p3), some (.ref p4), some (.int ((p2 / (nI 6)) + s1_13)), some (.int x6_24), none] [] := by
  intro n
  induction n with
  | zero =>
    intro x6_24
    exact JR.bot
  | succ n ih24 =>
    intro x6_24
    show JR p l e R s m args below meth c Q D S0 8 bc bs (FX5_marks_24 p1 p2 p3 p4 Qj s1_13 (jit (FX5_marks_24 p1 p2 p3 p4 Qj s1_13) (fun _ => jbot) n) x6_24) 24 [none, some (.ref p1), some (.int p2), some (.int p3), some (.ref p4), some (.int ((p2 / (nI 6)) + s1_13)), some (.int x6_24), none] []
    generalize jit (FX5_marks_24 p1 p2 p3 p4 Qj s1_13) (fun _ => jbot) n = rec24 at ih24 ⊢
    unfold FX5_marks_24
    refine jr_iload K dX5_marks_24 rfl ?_
    refine jr_iload_n K dX5_marks_26 rfl ?_
    refine jr_bipush K dX5_marks_27 (v := (nI 6)) (by decide) ?_
    refine jr_irem K dX5_marks_29 (by decide) ?_
    refine jr_iconst K dX5_marks_30 (v := (nI 1)) (by decide) ?_
    refine jr_iadd K dX5_marks_31 ?_
    refine jr_icmp_gt K (tgt := 106) dX5_marks_32 (by decide) ?_ ?_
    · exact hret _ _ _ _ dX5_marks_106
    · refine jr_iload K dX5_marks_35 rfl ?_
      refine jr_join (fun (k100 : JP) => JR p l e R s m args below meth c Q D S0 8 bc bs k100 100 [none, some (.ref p1), some (.int p2), some (.int p3), some (.ref p4), some (.int ((p2 / (nI 6)) + s1_13)), some (.int x6_24), none] []) ?_ (fun k100 hk100 => ?_)
      · refine jr_iinc K (v := (x6_24 + (nI 2))) (L' := [none, some (.ref p1), some (.int p2), some (.int p3), some (.ref p4), some (.int ((p2 / (nI 6)) + s1_13)), some (.int (x6_24 + (nI 2))), none]) dX5_marks_100 rfl rfl (by decide) rfl rfl ?_
        refine jr_goto K (tgt := 24) dX5_marks_103 (by decide) ?_
        exact jr_weak (ih24 (x6_24 + (nI 2))) ⟨rfl, rfl, rfl, rfl, rfl, rfl, trivial⟩
      refine jr_if_lt K (tgt := 100) dX5_marks_37 (by decide) ?_ ?_
      · exact jr_weak (hk100) ⟨rfl, rfl, rfl, rfl, rfl, rfl, trivial⟩
      · refine jr_iload K dX5_marks_40 rfl ?_
        refine jr_bipush K dX5_marks_42 (v := (nI 6)) (by decide) ?_
        refine jr_icmp_ge K (tgt := 100) dX5_marks_44 (by decide) ?_ ?_
        · exact jr_weak (hk100) ⟨rfl, rfl, rfl, rfl, rfl, rfl, trivial⟩
        · refine jr_iload K dX5_marks_47 rfl ?_
          refine jr_if_lt K (tgt := 100) dX5_marks_49 (by decide) ?_ ?_
          · exact jr_weak (hk100) ⟨rfl, rfl, rfl, rfl, rfl, rfl, trivial⟩
          · refine jr_iload K dX5_marks_52 rfl ?_
            refine jr_bipush K dX5_marks_54 (v := (nI 6)) (by decide) ?_
            refine jr_icmp_lt K (tgt := 62) dX5_marks_56 (by decide) ?_ ?_
            · refine jr_bipush K dX5_marks_62 (v := (nI 6)) (by decide) ?_
              refine jr_iload K dX5_marks_64 rfl ?_
              refine jr_imul K dX5_marks_66 ?_
              refine jr_iload K dX5_marks_67 rfl ?_
              refine jr_iadd K dX5_marks_69 ?_
              refine jr_istore K (L' := [none, some (.ref p1), some (.int p2), some (.int p3), some (.ref p4), some (.int ((p2 / (nI 6)) + s1_13)), some (.int x6_24), some (.int (((nI 6) * ((p2 / (nI 6)) + s1_13)) + x6_24))]) dX5_marks_70 (by decide) rfl rfl ?_
              refine jr_aload_n K dX5_marks_72 rfl ?_
              refine jr_getA K gf_X5_9 dX5_marks_73 (fun v73 => ?_)
              refine jr_iload K dX5_marks_76 rfl ?_
              refine jr_iald K dX5_marks_78 (fun v78 => ?_)
              refine jr_iconst K dX5_marks_79 (v := (-1)) (by decide) ?_
              refine jr_icmp_eq K (tgt := 100) dX5_marks_80 (by decide) ?_ ?_
              · exact jr_weak (hk100) ⟨rfl, rfl, rfl, rfl, rfl, rfl, trivial⟩
              · refine jr_aload_n K dX5_marks_83 rfl ?_
                refine jr_getA K gf_X5_15 dX5_marks_84 (fun v84 => ?_)
                refine jr_iload K dX5_marks_87 rfl ?_
                refine jr_iald K dX5_marks_89 (fun v89 => ?_)
                refine jr_iload_n K dX5_marks_90 rfl ?_
                refine jr_icmp_eq K (tgt := 100) dX5_marks_91 (by decide) ?_ ?_
                · exact jr_weak (hk100) ⟨rfl, rfl, rfl, rfl, rfl, rfl, trivial⟩
                · refine jr_aload K dX5_marks_94 rfl ?_
                  refine jr_iload K dX5_marks_96 rfl ?_
                  refine jr_iconst K dX5_marks_98 (v := (nI 1)) (by decide) ?_
                  refine jr_zast K dX5_marks_99 ?_
                  exact jr_weak (hk100) ⟨rfl, rfl, rfl, rfl, rfl, rfl, trivial⟩
            · refine jr_goto K (tgt := 100) dX5_marks_59 (by decide) ?_
              exact jr_weak (hk100) ⟨rfl, rfl, rfl, rfl, rfl, rfl, trivial⟩
theorem wX5_marks (K : JK p l R s m args meth c D S0 A0 8 cX5_marks "MoveNotes$Bite" 12) (bc bs : Nat) (this : Nat) (p1 : Nat) (p2 : Int32) (p3 : Int32) (p4 : Nat) (Qj : JP) (hret : jRetV p l e R s m args below meth c Q D S0 8 cX5_marks Qj) : JR p l e R s m args below meth c Q D S0 8 bc bs (JX5_marks this p1 p2 p3 p4 Qj) 0 [some (.ref this), some (.ref p1), some (.int p2), some (.int p3), some (.ref p4), none, none, none] [] := by
  unfold JX5_marks
  refine jr_iload_n K dX5_marks_0 rfl ?_
  refine jr_bipush K dX5_marks_1 (v := (nI 6)) (by decide) ?_
  refine jr_idiv K dX5_marks_3 (by decide) ?_
  refine jr_iload_n K dX5_marks_4 rfl ?_
  refine jr_join (fun (k13 : Int32 → JP) => ∀ (s1_13 : Int32), JR p l e R s m args below meth c Q D S0 8 bc bs (k13 s1_13) 13 [none, some (.ref p1), some (.int p2), some (.int p3), some (.ref p4), none, none, none] [.int s1_13, .int (p2 / (nI 6))]) ?_ (fun k13 hk13 => ?_)
  · intro s1_13
    refine jr_iadd K dX5_marks_13 ?_
    refine jr_istore K (L' := [none, some (.ref p1), some (.int p2), some (.int p3), some (.ref p4), some (.int ((p2 / (nI 6)) + s1_13)), none, none]) dX5_marks_14 (by decide) rfl rfl ?_
    refine jr_iload_n K dX5_marks_16 rfl ?_
    refine jr_bipush K dX5_marks_17 (v := (nI 6)) (by decide) ?_
    refine jr_irem K dX5_marks_19 (by decide) ?_
    refine jr_iconst K dX5_marks_20 (v := (nI 1)) (by decide) ?_
    refine jr_isub K dX5_marks_21 ?_
    refine jr_istore K (L' := [none, some (.ref p1), some (.int p2), some (.int p3), some (.ref p4), some (.int ((p2 / (nI 6)) + s1_13)), some (.int ((jrem p2 (nI 6)) - (nI 1))), none]) dX5_marks_22 (by decide) rfl rfl ?_
    refine jr_ex (fun n24 => ?_)
    refine jr_weak (wX5_marks_24 K bc bs p1 p2 p3 p4 Qj s1_13 hret n24 ((jrem p2 (nI 6)) - (nI 1))) ⟨rfl, rfl, rfl, rfl, rfl, rfl, trivial⟩
  refine jr_if_ne K (tgt := 12) dX5_marks_5 (by decide) ?_ ?_
  · refine jr_iconst K dX5_marks_12 (v := (-1)) (by decide) ?_
    exact jr_weak (hk13 (-1)) ⟨rfl, rfl, rfl, rfl, trivial⟩
  · refine jr_iconst K dX5_marks_8 (v := (nI 1)) (by decide) ?_
    refine jr_goto K (tgt := 13) dX5_marks_9 (by decide) ?_
    exact jr_weak (hk13 (nI 1)) ⟨rfl, rfl, rfl, rfl, trivial⟩
theorem metX5_marks (hG : jG l D S0 A0) (this : Nat) (p1 : Nat) (p2 : Int32) (p3 : Int32) (p4 : Nat) (Qj : JP) : Met l yX5_marks (ws_ yX5_marks cX5_marks 8 none) (jrm 12 0 0) (va_Pc [.ref this, .ref p1, .int p2, .int p3, .ref p4] (jB D S0 (JX5_marks this p1 p2 p3 p4 Qj))) (va_Qv Qj (fun σ t => jRep D S0.heap.size σ t.heap) (jA S0)) 0 0 (jA S0) :=
  jr_start hG (by decide) (Nat.le_of_ble_eq_true rfl) rfl fun p e s m below meth c K hr hn => wX5_marks K _ _ this p1 p2 p3 p4 Qj (fun _ _ _ _ d => jr_vret K hr d)
theorem wX3_slides_20 (K : JK p l R s m args meth c D S0 A0 12 cX3_slides "MoveNotes$Going" 12) (bc bs : Nat) (p0 : Nat) (p2 : Int32) (p3 : Int32) (p4 : Int32) (p5 : Int32) (p6 : Int32) (p7 : Nat) (Qj : JP) (k72 : Int32 → JP) (hret : jRetV p l e R s m args below meth c Q D S0 12 cX3_slides Qj) (hk72 : ∀ (y11_72 : Int32), JR p l e R s m args below meth c Q D S0 12 bc bs (k72 y11_72) 72 [some (.ref p0), none, some (.int p2), none, none, none, some (.int p6), some (.ref p7), none, none, none, some (.int y11_72)] []) : ∀ (n : Nat) (x8_20 : Int32) (x9_20 : Int32) (x10_20 : Int32), JR p l e R s m args below meth c Q D S0 12 bc bs (jit (FX3_slides_20 p0 p3 p4 p5 p7 Qj k72) (fun _ _ _ => jbot) n x8_20 x9_20 x10_20) 20 [some (.ref p0), none, some (.int p2), some (.int p3), some (.int p4), some (.int p5), some (.int p6), some (.ref p7), some (.int x8_20), some (.int x9_20), some (.int x10_20), none] [] := by
  intro n
  induction n with
  | zero =>
    intro x8_20 x9_20 x10_20
    exact JR.bot
  | succ n ih20 =>
    intro x8_20 x9_20 x10_20
    show JR p l e R s m args below meth c Q D S0 12 bc bs (FX3_slides_20 p0 p3 p4 p5 p7 Qj k72 (jit (FX3_slides_20 p0 p3 p4 p5 p7 Qj k72) (fun _ _ _ => jbot) n) x8_20 x9_20 x10_20) 20 [some (.ref p0), none, some (.int p2), some (.int p3), some (.int p4), some (.int p5), some (.int p6), some (.ref p7), some (.int x8_20), some (.int x9_20), some (.int x10_20), none] []
    generalize jit (FX3_slides_20 p0 p3 p4 p5 p7 Qj k72) (fun _ _ _ => jbot) n = rec20 at ih20 ⊢
    unfold FX3_slides_20
    refine jr_iload K dX3_slides_20 rfl ?_
    refine jr_iload K dX3_slides_22 rfl ?_
    refine jr_icmp_ge K (tgt := 120) dX3_slides_24 (by decide) ?_ ?_
    · exact hret _ _ _ _ dX3_slides_120
    · refine jr_iload K dX3_slides_27 rfl ?_
      refine jr_if_lt K (tgt := 120) dX3_slides_29 (by decide) ?_ ?_
      · exact hret _ _ _ _ dX3_slides_120
      · refine jr_iload K dX3_slides_32 rfl ?_
        refine jr_bipush K dX3_slides_34 (v := (nI 6)) (by decide) ?_
        refine jr_icmp_ge K (tgt := 120) dX3_slides_36 (by decide) ?_ ?_
        · exact hret _ _ _ _ dX3_slides_120
        · refine jr_iload K dX3_slides_39 rfl ?_
          refine jr_if_lt K (tgt := 120) dX3_slides_41 (by decide) ?_ ?_
          · exact hret _ _ _ _ dX3_slides_120
          · refine jr_iload K dX3_slides_44 rfl ?_
            refine jr_bipush K dX3_slides_46 (v := (nI 6)) (by decide) ?_
            refine jr_icmp_ge K (tgt := 120) dX3_slides_48 (by decide) ?_ ?_
            · exact hret _ _ _ _ dX3_slides_120
            · refine jr_bipush K dX3_slides_51 (v := (nI 6)) (by decide) ?_
              refine jr_iload K dX3_slides_53 rfl ?_
              refine jr_imul K dX3_slides_55 ?_
              refine jr_iload K dX3_slides_56 rfl ?_
              refine jr_iadd K dX3_slides_58 ?_
              refine jr_istore K (L' := [some (.ref p0), none, some (.int p2), some (.int p3), some (.int p4), some (.int p5), some (.int p6), some (.ref p7), some (.int x8_20), some (.int x9_20), some (.int x10_20), some (.int (((nI 6) * x9_20) + x8_20))]) dX3_slides_59 (by decide) rfl rfl ?_
              refine jr_aload_n K dX3_slides_61 rfl ?_
              refine jr_getA K gf_X3_9 dX3_slides_62 (fun v62 => ?_)
              refine jr_iload K dX3_slides_65 rfl ?_
              refine jr_iald K dX3_slides_67 (fun v67 => ?_)
              refine jr_iconst K dX3_slides_68 (v := (-1)) (by decide) ?_
              refine jr_icmp_eq K (tgt := 95) dX3_slides_69 (by decide) ?_ ?_
              · refine jr_aload K dX3_slides_95 rfl ?_
                refine jr_iload K dX3_slides_97 rfl ?_
                refine jr_iconst K dX3_slides_99 (v := (nI 1)) (by decide) ?_
                refine jr_zast K dX3_slides_100 ?_
                refine jr_iload K dX3_slides_101 rfl ?_
                refine jr_iload_n K dX3_slides_103 rfl ?_
                refine jr_iadd K dX3_slides_104 ?_
                refine jr_istore K (L' := [some (.ref p0), none, some (.int p2), some (.int p3), some (.int p4), some (.int p5), some (.int p6), some (.ref p7), some (.int (x8_20 + p3)), some (.int x9_20), some (.int x10_20), some (.int (((nI 6) * x9_20) + x8_20))]) dX3_slides_105 (by decide) rfl rfl ?_
                refine jr_iload K dX3_slides_107 rfl ?_
                refine jr_iload K dX3_slides_109 rfl ?_
                refine jr_iadd K dX3_slides_111 ?_
                refine jr_istore K (L' := [some (.ref p0), none, some (.int p2), some (.int p3), some (.int p4), some (.int p5), some (.int p6), some (.ref p7), some (.int (x8_20 + p3)), some (.int (x9_20 + p4)), some (.int x10_20), some (.int (((nI 6) * x9_20) + x8_20))]) dX3_slides_112 (by decide) rfl rfl ?_
                refine jr_iinc K (v := (x10_20 + (nI 1))) (L' := [some (.ref p0), none, some (.int p2), some (.int p3), some (.int p4), some (.int p5), some (.int p6), some (.ref p7), some (.int (x8_20 + p3)), some (.int (x9_20 + p4)), some (.int (x10_20 + (nI 1))), some (.int (((nI 6) * x9_20) + x8_20))]) dX3_slides_114 rfl rfl (by decide) rfl rfl ?_
                refine jr_goto K (tgt := 20) dX3_slides_117 (by decide) ?_
                exact jr_weak (ih20 (x8_20 + p3) (x9_20 + p4) (x10_20 + (nI 1))) ⟨rfl, rfl, rfl, rfl, rfl, rfl, rfl, rfl, rfl, rfl, trivial⟩
              · exact jr_weak (hk72 (((nI 6) * x9_20) + x8_20)) ⟨rfl, rfl, rfl, rfl, rfl, trivial⟩
theorem wX3_slides (K : JK p l R s m args meth c D S0 A0 12 cX3_slides "MoveNotes$Going" 12) (bc bs : Nat) (p0 : Nat) (p1 : Int32) (p2 : Int32) (p3 : Int32) (p4 : Int32) (p5 : Int32) (p6 : Int32) (p7 : Nat) (Qj : JP) (hret : jRetV p l e R s m args below meth c Q D S0 12 cX3_slides Qj) : JR p l e R s m args below meth c Q D S0 12 bc bs (JX3_slides p0 p1 p2 p3 p4 p5 p6 p7 Qj) 0 [some (.ref p0), some (.int p1), some (.int p2), some (.int p3), some (.int p4), some (.int p5), some (.int p6), some (.ref p7), none, none, none, none] [] := by
  unfold JX3_slides
  refine jr_iload_n K dX3_slides_0 rfl ?_
  refine jr_bipush K dX3_slides_1 (v := (nI 6)) (by decide) ?_
  refine jr_irem K dX3_slides_3 (by decide) ?_
  refine jr_iload_n K dX3_slides_4 rfl ?_
  refine jr_iadd K dX3_slides_5 ?_
  refine jr_istore K (L' := [some (.ref p0), some (.int p1), some (.int p2), some (.int p3), some (.int p4), some (.int p5), some (.int p6), some (.ref p7), some (.int ((jrem p1 (nI 6)) + p3)), none, none, none]) dX3_slides_6 (by decide) rfl rfl ?_
  refine jr_iload_n K dX3_slides_8 rfl ?_
  refine jr_bipush K dX3_slides_9 (v := (nI 6)) (by decide) ?_
  refine jr_idiv K dX3_slides_11 (by decide) ?_
  refine jr_iload K dX3_slides_12 rfl ?_
  refine jr_iadd K dX3_slides_14 ?_
  refine jr_istore K (L' := [some (.ref p0), some (.int p1), some (.int p2), some (.int p3), some (.int p4), some (.int p5), some (.int p6), some (.ref p7), some (.int ((jrem p1 (nI 6)) + p3)), some (.int ((p1 / (nI 6)) + p4)), none, none]) dX3_slides_15 (by decide) rfl rfl ?_
  refine jr_iconst K dX3_slides_17 (v := (nI 0)) (by decide) ?_
  refine jr_istore K (L' := [some (.ref p0), some (.int p1), some (.int p2), some (.int p3), some (.int p4), some (.int p5), some (.int p6), some (.ref p7), some (.int ((jrem p1 (nI 6)) + p3)), some (.int ((p1 / (nI 6)) + p4)), some (.int (nI 0)), none]) dX3_slides_18 (by decide) rfl rfl ?_
  refine jr_ex (fun n20 => ?_)
  refine jr_weak (wX3_slides_20 K bc bs p0 p2 p3 p4 p5 p6 p7 Qj _ hret ?_ n20 ((jrem p1 (nI 6)) + p3) ((p1 / (nI 6)) + p4) (nI 0)) ⟨rfl, rfl, rfl, rfl, rfl, rfl, rfl, rfl, rfl, rfl, trivial⟩
  · intro y11_72
    refine jr_iload K dX3_slides_72 rfl ?_
    refine jr_if_eq K (tgt := 94) dX3_slides_74 (by decide) ?_ ?_
    · exact hret _ _ _ _ dX3_slides_94
    · refine jr_aload_n K dX3_slides_77 rfl ?_
      refine jr_getA K gf_X3_15 dX3_slides_78 (fun v78 => ?_)
      refine jr_iload K dX3_slides_81 rfl ?_
      refine jr_iald K dX3_slides_83 (fun v83 => ?_)
      refine jr_iload_n K dX3_slides_84 rfl ?_
      refine jr_icmp_eq K (tgt := 94) dX3_slides_85 (by decide) ?_ ?_
      · exact hret _ _ _ _ dX3_slides_94
      · refine jr_aload K dX3_slides_88 rfl ?_
        refine jr_iload K dX3_slides_90 rfl ?_
        refine jr_iconst K dX3_slides_92 (v := (nI 1)) (by decide) ?_
        refine jr_zast K dX3_slides_93 ?_
        exact hret _ _ _ _ dX3_slides_94
theorem metX3_slides (hG : jG l D S0 A0) (p0 : Nat) (p1 : Int32) (p2 : Int32) (p3 : Int32) (p4 : Int32) (p5 : Int32) (p6 : Int32) (p7 : Nat) (Qj : JP) : Met l yX3_slides (ws_ yX3_slides cX3_slides 12 none) (jrm 12 0 0) (va_Pc [.ref p0, .int p1, .int p2, .int p3, .int p4, .int p5, .int p6, .ref p7] (jB D S0 (JX3_slides p0 p1 p2 p3 p4 p5 p6 p7 Qj))) (va_Qv Qj (fun σ t => jRep D S0.heap.size σ t.heap) (jA S0)) 0 0 (jA S0) :=
  jr_start hG (by decide) (Nat.le_of_ble_eq_true rfl) rfl fun p e s m below meth c K hr hn => wX3_slides K _ _ p0 p1 p2 p3 p4 p5 p6 p7 Qj (fun _ _ _ _ d => jr_vret K hr d)
theorem wX13_marks_3 (K : JK p l R s m args meth c D S0 A0 6 cX13_marks "MoveNotes$Straight" 13) (bc bs : Nat) (this : Nat) (p1 : Nat) (p2 : Int32) (p3 : Int32) (p4 : Nat) (Qj : JP) (hret : jRetV p l e R s m args below meth c Q D S0 6 cX13_marks Qj) : ∀ (n : Nat) (x5_3 : Int32), JR p l e R s m args below meth c Q D S0 6 bc bs (jit (FX13_marks_3 this p1 p2 p3 p4 Qj) (fun _ => jbot) n x5_3) 3 [some (.ref this), some (.ref p1), some (.int p2), some (.int p3), some (.ref p4), some (.int x5_3)] [] := by
  intro n
  induction n with
  | zero =>
    intro x5_3
    exact JR.bot
  | succ n ih3 =>
    intro x5_3
    show JR p l e R s m args below meth c Q D S0 6 bc bs (FX13_marks_3 this p1 p2 p3 p4 Qj (jit (FX13_marks_3 this p1 p2 p3 p4 Qj) (fun _ => jbot) n) x5_3) 3 [some (.ref this), some (.ref p1), some (.int p2), some (.int p3), some (.ref p4), some (.int x5_3)] []
    generalize jit (FX13_marks_3 this p1 p2 p3 p4 Qj) (fun _ => jbot) n = rec3 at ih3 ⊢
    unfold FX13_marks_3
    refine jr_iload K dX13_marks_3 rfl ?_
    refine jr_iconst K dX13_marks_5 (v := (nI 1)) (by decide) ?_
    refine jr_icmp_gt K (tgt := 47) dX13_marks_6 (by decide) ?_ ?_
    · exact hret _ _ _ _ dX13_marks_47
    · refine jr_aload_n K dX13_marks_9 rfl ?_
      refine jr_iload_n K dX13_marks_10 rfl ?_
      refine jr_iload_n K dX13_marks_11 rfl ?_
      refine jr_iload K dX13_marks_12 rfl ?_
      refine jr_iconst K dX13_marks_14 (v := (nI 0)) (by decide) ?_
      refine jr_aload_n K dX13_marks_15 rfl ?_
      refine jr_getI K gf_X13_7 dX13_marks_16 (fun v16 => ?_)
      refine jr_iconst K dX13_marks_19 (v := (nI 1)) (by decide) ?_
      refine jr_aload K dX13_marks_20 rfl ?_
      refine jr_callv0 (jrun_SU (As := [.ref p1, .int p2, .int p3, .int x5_3, .int (nI 0), .int v16, .int (nI 1), .ref p4]) (st := []) K (metX3_slides K.hG p1 p2 p3 x5_3 (nI 0) v16 (nI 1) p4 _) mtX3_slides q683 q702 q703 rfl rfl rfl (Nat.le_of_ble_eq_true rfl) (by decide) ⟨Nat.zero_le _, Nat.zero_le _⟩ dX13_marks_22) ?_
      refine jr_aload_n K dX13_marks_25 rfl ?_
      refine jr_iload_n K dX13_marks_26 rfl ?_
      refine jr_iload_n K dX13_marks_27 rfl ?_
      refine jr_iconst K dX13_marks_28 (v := (nI 0)) (by decide) ?_
      refine jr_iload K dX13_marks_29 rfl ?_
      refine jr_aload_n K dX13_marks_31 rfl ?_
      refine jr_getI K gf_X13_7 dX13_marks_32 (fun v32 => ?_)
      refine jr_iconst K dX13_marks_35 (v := (nI 1)) (by decide) ?_
      refine jr_aload K dX13_marks_36 rfl ?_
      refine jr_callv0 (jrun_SU (As := [.ref p1, .int p2, .int p3, .int (nI 0), .int x5_3, .int v32, .int (nI 1), .ref p4]) (st := []) K (metX3_slides K.hG p1 p2 p3 (nI 0) x5_3 v32 (nI 1) p4 _) mtX3_slides q683 q702 q703 rfl rfl rfl (Nat.le_of_ble_eq_true rfl) (by decide) ⟨Nat.zero_le _, Nat.zero_le _⟩ dX13_marks_38) ?_
      refine jr_iinc K (v := (x5_3 + (nI 2))) (L' := [some (.ref this), some (.ref p1), some (.int p2), some (.int p3), some (.ref p4), some (.int (x5_3 + (nI 2)))]) dX13_marks_41 rfl rfl (by decide) rfl rfl ?_
      refine jr_goto K (tgt := 3) dX13_marks_44 (by decide) ?_
      exact jr_weak (ih3 (x5_3 + (nI 2))) ⟨rfl, rfl, rfl, rfl, rfl, rfl, trivial⟩
theorem wX13_marks (K : JK p l R s m args meth c D S0 A0 6 cX13_marks "MoveNotes$Straight" 13) (bc bs : Nat) (this : Nat) (p1 : Nat) (p2 : Int32) (p3 : Int32) (p4 : Nat) (Qj : JP) (hret : jRetV p l e R s m args below meth c Q D S0 6 cX13_marks Qj) : JR p l e R s m args below meth c Q D S0 6 bc bs (JX13_marks this p1 p2 p3 p4 Qj) 0 [some (.ref this), some (.ref p1), some (.int p2), some (.int p3), some (.ref p4), none] [] := by
  unfold JX13_marks
  refine jr_iconst K dX13_marks_0 (v := (-1)) (by decide) ?_
  refine jr_istore K (L' := [some (.ref this), some (.ref p1), some (.int p2), some (.int p3), some (.ref p4), some (.int (-1))]) dX13_marks_1 (by decide) rfl rfl ?_
  refine jr_ex (fun n3 => ?_)
  refine jr_weak (wX13_marks_3 K bc bs this p1 p2 p3 p4 Qj hret n3 (-1)) ⟨rfl, rfl, rfl, rfl, rfl, rfl, trivial⟩
theorem metX13_marks (hG : jG l D S0 A0) (this : Nat) (p1 : Nat) (p2 : Int32) (p3 : Int32) (p4 : Nat) (Qj : JP) : Met l yX13_marks (ws_ yX13_marks cX13_marks 6 none) (jrm 13 0 0) (va_Pc [.ref this, .ref p1, .int p2, .int p3, .ref p4] (jB D S0 (JX13_marks this p1 p2 p3 p4 Qj))) (va_Qv Qj (fun σ t => jRep D S0.heap.size σ t.heap) (jA S0)) 0 0 (jA S0) :=
  jr_start hG (by decide) (Nat.le_of_ble_eq_true rfl) rfl fun p e s m below meth c K hr hn => wX13_marks K _ _ this p1 p2 p3 p4 Qj (fun _ _ _ _ d => jr_vret K hr d)
theorem wX14_marks_12 (K : JK p l R s m args meth c D S0 A0 7 cX14_marks "MoveNotes$Slant" 13) (bc bs : Nat) (this : Nat) (p1 : Nat) (p2 : Int32) (p3 : Int32) (p4 : Nat) (x5_3 : Int32) (k41 : JP) (hk41 : JR p l e R s m args below meth c Q D S0 7 bc bs k41 41 [some (.ref this), some (.ref p1), some (.int p2), some (.int p3), some (.ref p4), some (.int x5_3), none] []) : ∀ (n : Nat) (x6_12 : Int32), JR p l e R s m args below meth c Q D S0 7 bc bs (jit (FX14_marks_12 this p1 p2 p3 p4 x5_3 k41) (fun _ => jbot) n x6_12) 12 [some (.ref this), some (.ref p1), some (.int p2), some (.int p3), some (.ref p4), some (.int x5_3), some (.int x6_12)] [] := by
  intro n
  induction n with
  | zero =>
    intro x6_12
    exact JR.bot
  | succ n ih12 =>
    intro x6_12
    show JR p l e R s m args below meth c Q D S0 7 bc bs (FX14_marks_12 this p1 p2 p3 p4 x5_3 k41 (jit (FX14_marks_12 this p1 p2 p3 p4 x5_3 k41) (fun _ => jbot) n) x6_12) 12 [some (.ref this), some (.ref p1), some (.int p2), some (.int p3), some (.ref p4), some (.int x5_3), some (.int x6_12)] []
    generalize jit (FX14_marks_12 this p1 p2 p3 p4 x5_3 k41) (fun _ => jbot) n = rec12 at ih12 ⊢
    unfold FX14_marks_12
    refine jr_iload K dX14_marks_12 rfl ?_
    refine jr_iconst K dX14_marks_14 (v := (nI 1)) (by decide) ?_
    refine jr_icmp_gt K (tgt := 41) dX14_marks_15 (by decide) ?_ ?_
    · exact jr_weak (hk41) ⟨rfl, rfl, rfl, rfl, rfl, rfl, trivial⟩
    · refine jr_aload_n K dX14_marks_18 rfl ?_
      refine jr_iload_n K dX14_marks_19 rfl ?_
      refine jr_iload_n K dX14_marks_20 rfl ?_
      refine jr_iload K dX14_marks_21 rfl ?_
      refine jr_iload K dX14_marks_23 rfl ?_
      refine jr_aload_n K dX14_marks_25 rfl ?_
      refine jr_getI K gf_X14_7 dX14_marks_26 (fun v26 => ?_)
      refine jr_iconst K dX14_marks_29 (v := (nI 1)) (by decide) ?_
      refine jr_aload K dX14_marks_30 rfl ?_
      refine jr_callv0 (jrun_SU (As := [.ref p1, .int p2, .int p3, .int x5_3, .int x6_12, .int v26, .int (nI 1), .ref p4]) (st := []) K (metX3_slides K.hG p1 p2 p3 x5_3 x6_12 v26 (nI 1) p4 _) mtX3_slides q683 q697 q698 rfl rfl rfl (Nat.le_of_ble_eq_true rfl) (by decide) ⟨Nat.zero_le _, Nat.zero_le _⟩ dX14_marks_32) ?_
      refine jr_iinc K (v := (x6_12 + (nI 2))) (L' := [some (.ref this), some (.ref p1), some (.int p2), some (.int p3), some (.ref p4), some (.int x5_3), some (.int (x6_12 + (nI 2)))]) dX14_marks_35 rfl rfl (by decide) rfl rfl ?_
      refine jr_goto K (tgt := 12) dX14_marks_38 (by decide) ?_
      exact jr_weak (ih12 (x6_12 + (nI 2))) ⟨rfl, rfl, rfl, rfl, rfl, rfl, rfl, trivial⟩
theorem wX14_marks_3 (K : JK p l R s m args meth c D S0 A0 7 cX14_marks "MoveNotes$Slant" 13) (bc bs : Nat) (this : Nat) (p1 : Nat) (p2 : Int32) (p3 : Int32) (p4 : Nat) (Qj : JP) (hret : jRetV p l e R s m args below meth c Q D S0 7 cX14_marks Qj) : ∀ (n : Nat) (x5_3 : Int32), JR p l e R s m args below meth c Q D S0 7 bc bs (jit (FX14_marks_3 this p1 p2 p3 p4 Qj) (fun _ => jbot) n x5_3) 3 [some (.ref this), some (.ref p1), some (.int p2), some (.int p3), some (.ref p4), some (.int x5_3), none] [] := by
  intro n
  induction n with
  | zero =>
    intro x5_3
    exact JR.bot
  | succ n ih3 =>
    intro x5_3
    show JR p l e R s m args below meth c Q D S0 7 bc bs (FX14_marks_3 this p1 p2 p3 p4 Qj (jit (FX14_marks_3 this p1 p2 p3 p4 Qj) (fun _ => jbot) n) x5_3) 3 [some (.ref this), some (.ref p1), some (.int p2), some (.int p3), some (.ref p4), some (.int x5_3), none] []
    generalize jit (FX14_marks_3 this p1 p2 p3 p4 Qj) (fun _ => jbot) n = rec3 at ih3 ⊢
    unfold FX14_marks_3
    refine jr_iload K dX14_marks_3 rfl ?_
    refine jr_iconst K dX14_marks_5 (v := (nI 1)) (by decide) ?_
    refine jr_icmp_gt K (tgt := 47) dX14_marks_6 (by decide) ?_ ?_
    · exact hret _ _ _ _ dX14_marks_47
    · refine jr_iconst K dX14_marks_9 (v := (-1)) (by decide) ?_
      refine jr_istore K (L' := [some (.ref this), some (.ref p1), some (.int p2), some (.int p3), some (.ref p4), some (.int x5_3), some (.int (-1))]) dX14_marks_10 (by decide) rfl rfl ?_
      refine jr_ex (fun n12 => ?_)
      refine jr_weak (wX14_marks_12 K bc bs this p1 p2 p3 p4 x5_3 _ ?_ n12 (-1)) ⟨rfl, rfl, rfl, rfl, rfl, rfl, rfl, trivial⟩
      · refine jr_iinc K (v := (x5_3 + (nI 2))) (L' := [some (.ref this), some (.ref p1), some (.int p2), some (.int p3), some (.ref p4), some (.int (x5_3 + (nI 2))), none]) dX14_marks_41 rfl rfl (by decide) rfl rfl ?_
        refine jr_goto K (tgt := 3) dX14_marks_44 (by decide) ?_
        exact jr_weak (ih3 (x5_3 + (nI 2))) ⟨rfl, rfl, rfl, rfl, rfl, rfl, trivial⟩
theorem wX14_marks (K : JK p l R s m args meth c D S0 A0 7 cX14_marks "MoveNotes$Slant" 13) (bc bs : Nat) (this : Nat) (p1 : Nat) (p2 : Int32) (p3 : Int32) (p4 : Nat) (Qj : JP) (hret : jRetV p l e R s m args below meth c Q D S0 7 cX14_marks Qj) : JR p l e R s m args below meth c Q D S0 7 bc bs (JX14_marks this p1 p2 p3 p4 Qj) 0 [some (.ref this), some (.ref p1), some (.int p2), some (.int p3), some (.ref p4), none, none] [] := by
  unfold JX14_marks
  refine jr_iconst K dX14_marks_0 (v := (-1)) (by decide) ?_
  refine jr_istore K (L' := [some (.ref this), some (.ref p1), some (.int p2), some (.int p3), some (.ref p4), some (.int (-1)), none]) dX14_marks_1 (by decide) rfl rfl ?_
  refine jr_ex (fun n3 => ?_)
  refine jr_weak (wX14_marks_3 K bc bs this p1 p2 p3 p4 Qj hret n3 (-1)) ⟨rfl, rfl, rfl, rfl, rfl, rfl, trivial⟩
theorem metX14_marks (hG : jG l D S0 A0) (this : Nat) (p1 : Nat) (p2 : Int32) (p3 : Int32) (p4 : Nat) (Qj : JP) : Met l yX14_marks (ws_ yX14_marks cX14_marks 7 none) (jrm 13 0 0) (va_Pc [.ref this, .ref p1, .int p2, .int p3, .ref p4] (jB D S0 (JX14_marks this p1 p2 p3 p4 Qj))) (va_Qv Qj (fun σ t => jRep D S0.heap.size σ t.heap) (jA S0)) 0 0 (jA S0) :=
  jr_start hG (by decide) (Nat.le_of_ble_eq_true rfl) rfl fun p e s m below meth c K hr hn => wX14_marks K _ _ this p1 p2 p3 p4 Qj (fun _ _ _ _ d => jr_vret K hr d)
theorem wX15_marks (K : JK p l R s m args meth c D S0 A0 5 cX15_marks "MoveNotes$Ahead" 13) (bc bs : Nat) (this : Nat) (p1 : Nat) (p2 : Int32) (p3 : Int32) (p4 : Nat) (Qj : JP) (hret : jRetV p l e R s m args below meth c Q D S0 5 cX15_marks Qj) : JR p l e R s m args below meth c Q D S0 5 bc bs (JX15_marks this p1 p2 p3 p4 Qj) 0 [some (.ref this), some (.ref p1), some (.int p2), some (.int p3), some (.ref p4)] [] := by
  unfold JX15_marks
  refine jr_aload_n K dX15_marks_0 rfl ?_
  refine jr_iload_n K dX15_marks_1 rfl ?_
  refine jr_iload_n K dX15_marks_2 rfl ?_
  refine jr_iconst K dX15_marks_3 (v := (nI 0)) (by decide) ?_
  refine jr_iload_n K dX15_marks_4 rfl ?_
  refine jr_join (fun (k13 : Int32 → JP) => ∀ (s4_13 : Int32), JR p l e R s m args below meth c Q D S0 5 bc bs (k13 s4_13) 13 [some (.ref this), none, none, none, some (.ref p4)] [.int s4_13, .int (nI 0), .int p3, .int p2, .ref p1]) ?_ (fun k13 hk13 => ?_)
  · intro s4_13
    refine jr_aload_n K dX15_marks_13 rfl ?_
    refine jr_getI K gf_X15_7 dX15_marks_14 (fun v14 => ?_)
    refine jr_iconst K dX15_marks_17 (v := (nI 0)) (by decide) ?_
    refine jr_aload K dX15_marks_18 rfl ?_
    refine jr_callv0 (jrun_SU (As := [.ref p1, .int p2, .int p3, .int (nI 0), .int s4_13, .int v14, .int (nI 0), .ref p4]) (st := []) K (metX3_slides K.hG p1 p2 p3 (nI 0) s4_13 v14 (nI 0) p4 _) mtX3_slides q683 q681 q682 rfl rfl rfl (Nat.le_of_ble_eq_true rfl) (by decide) ⟨Nat.zero_le _, Nat.zero_le _⟩ dX15_marks_20) ?_
    exact hret _ _ _ _ dX15_marks_23
  refine jr_if_ne K (tgt := 12) dX15_marks_5 (by decide) ?_ ?_
  · refine jr_iconst K dX15_marks_12 (v := (-1)) (by decide) ?_
    exact jr_weak (hk13 (-1)) ⟨rfl, rfl, trivial⟩
  · refine jr_iconst K dX15_marks_8 (v := (nI 1)) (by decide) ?_
    refine jr_goto K (tgt := 13) dX15_marks_9 (by decide) ?_
    exact jr_weak (hk13 (nI 1)) ⟨rfl, rfl, trivial⟩
theorem metX15_marks (hG : jG l D S0 A0) (this : Nat) (p1 : Nat) (p2 : Int32) (p3 : Int32) (p4 : Nat) (Qj : JP) : Met l yX15_marks (ws_ yX15_marks cX15_marks 5 none) (jrm 13 0 0) (va_Pc [.ref this, .ref p1, .int p2, .int p3, .ref p4] (jB D S0 (JX15_marks this p1 p2 p3 p4 Qj))) (va_Qv Qj (fun σ t => jRep D S0.heap.size σ t.heap) (jA S0)) 0 0 (jA S0) :=
  jr_start hG (by decide) (Nat.le_of_ble_eq_true rfl) rfl fun p e s m below meth c K hr hn => wX15_marks K _ _ this p1 p2 p3 p4 Qj (fun _ _ _ _ d => jr_vret K hr d)
theorem wX23_init (K : JK p l R s m args meth c D S0 A0 5 cX23_init "MoveNotes$Note" 12) (hn : meth.name = "<init>") (bc bs : Nat) (this : Nat) (p1 : Int32) (p2 : Int32) (p3 : Int32) (p4 : Int32) (Qj : JP) (hret : jRetV p l e R s m args below meth c Q D S0 5 cX23_init Qj) : JR p l e R s m args below meth c Q D S0 5 bc bs (JX23_init this p1 p2 p3 p4 Qj) 0 [some (.ref this), some (.int p1), some (.int p2), some (.int p3), some (.int p4)] [] := by
  unfold JX23_init
  refine jr_aload_n K dX23_init_0 rfl ?_
  refine jr_objInit K q1254 dX23_init_1 (by decide) (Nat.le_of_ble_eq_true rfl) ?_
  refine jr_aload_n K dX23_init_4 rfl ?_
  refine jr_iload_n K dX23_init_5 rfl ?_
  refine jr_put K (pf_X23_9 hn) dX23_init_6 rfl rfl ?_
  refine jr_aload_n K dX23_init_9 rfl ?_
  refine jr_iload_n K dX23_init_10 rfl ?_
  refine jr_put K (pf_X23_15 hn) dX23_init_11 rfl rfl ?_
  refine jr_aload_n K dX23_init_14 rfl ?_
  refine jr_iload_n K dX23_init_15 rfl ?_
  refine jr_put K (pf_X23_18 hn) dX23_init_16 rfl rfl ?_
  refine jr_aload_n K dX23_init_19 rfl ?_
  refine jr_iload K dX23_init_20 rfl ?_
  refine jr_put K (pf_X23_21 hn) dX23_init_22 rfl rfl ?_
  exact hret _ _ _ _ dX23_init_25
theorem metX23_init (hG : jG l D S0 A0) (this : Nat) (p1 : Int32) (p2 : Int32) (p3 : Int32) (p4 : Int32) (Qj : JP) : Met l yX23_init (ws_ yX23_init cX23_init 5 none) (jrm 12 0 0) (va_Pc [.ref this, .int p1, .int p2, .int p3, .int p4] (jB D S0 (JX23_init this p1 p2 p3 p4 Qj))) (va_Qv Qj (fun σ t => jRep D S0.heap.size σ t.heap) (jA S0)) 0 0 (jA S0) :=
  jr_start hG (by decide) (Nat.le_of_ble_eq_true rfl) rfl fun p e s m below meth c K hr hn => wX23_init K hn _ _ this p1 p2 p3 p4 Qj (fun _ _ _ _ d => jr_vret K hr d)
theorem wX23_isNearly (K : JK p l R s m args meth c D S0 A0 2 cX23_isNearly "MoveNotes$Note" 12) (bc bs : Nat) (this : Nat) (p1 : Nat) (Qj : Int32 → JP) (hret : jRetZ p l e R s m args below meth c Q D S0 2 cX23_isNearly Qj) : JR p l e R s m args below meth c Q D S0 2 bc bs (JX23_isNearly this p1 Qj) 0 [some (.ref this), some (.ref p1)] [] := by
  unfold JX23_isNearly
  refine jr_aload_n K dX23_isNearly_0 rfl ?_
  refine jr_getI K gf_X23_9 dX23_isNearly_1 (fun v1 => ?_)
  refine jr_aload_n K dX23_isNearly_4 rfl ?_
  refine jr_getI K gf_X23_9 dX23_isNearly_5 (fun v5 => ?_)
  refine jr_join (fun (k37 : JP) => JR p l e R s m args below meth c Q D S0 2 bc bs k37 37 [none, none] []) ?_ (fun k37 hk37 => ?_)
  · refine jr_iconst K dX23_isNearly_37 (v := (nI 0)) (by decide) ?_
    exact JR.imp (fun _ h => ⟨Or.inl rfl, h⟩) (hret _ _ _ _ _ dX23_isNearly_38)
  refine jr_icmp_ne K (tgt := 37) dX23_isNearly_8 (by decide) ?_ ?_
  · exact jr_weak (hk37) trivial
  · refine jr_aload_n K dX23_isNearly_11 rfl ?_
    refine jr_getI K gf_X23_18 dX23_isNearly_12 (fun v12 => ?_)
    refine jr_aload_n K dX23_isNearly_15 rfl ?_
    refine jr_getI K gf_X23_18 dX23_isNearly_16 (fun v16 => ?_)
    refine jr_icmp_ne K (tgt := 37) dX23_isNearly_19 (by decide) ?_ ?_
    · exact jr_weak (hk37) trivial
    · refine jr_aload_n K dX23_isNearly_22 rfl ?_
      refine jr_getI K gf_X23_21 dX23_isNearly_23 (fun v23 => ?_)
      refine jr_aload_n K dX23_isNearly_26 rfl ?_
      refine jr_getI K gf_X23_21 dX23_isNearly_27 (fun v27 => ?_)
      refine jr_icmp_ne K (tgt := 37) dX23_isNearly_30 (by decide) ?_ ?_
      · exact jr_weak (hk37) trivial
      · refine jr_iconst K dX23_isNearly_33 (v := (nI 1)) (by decide) ?_
        refine jr_goto K (tgt := 38) dX23_isNearly_34 (by decide) ?_
        exact JR.imp (fun _ h => ⟨Or.inr rfl, h⟩) (hret _ _ _ _ _ dX23_isNearly_38)
theorem metX23_isNearly (hG : jG l D S0 A0) (this : Nat) (p1 : Nat) (Qj : Int32 → JP) : Met l yX23_isNearly (ws_ yX23_isNearly cX23_isNearly 2 (some .boolean)) (jrm 12 0 0) (va_Pc [.ref this, .ref p1] (jB D S0 (JX23_isNearly this p1 Qj))) (va_Qi Qj (fun σ t => jRep D S0.heap.size σ t.heap) (jA S0)) 0 0 (jA S0) :=
  jr_start hG (by decide) (Nat.le_of_ble_eq_true rfl) rfl fun p e s m below meth c K hr hn => wX23_isNearly K _ _ this p1 Qj (fun _ _ _ _ _ d => jr_zret K hr d)
theorem wX23_isLike (K : JK p l R s m args meth c D S0 A0 2 cX23_isLike "MoveNotes$Note" 13) (bc bs : Nat) (this : Nat) (p1 : Nat) (Qj : Int32 → JP) (hret : jRetZ p l e R s m args below meth c Q D S0 2 cX23_isLike Qj) : JR p l e R s m args below meth c Q D S0 2 bc bs (JX23_isLike this p1 Qj) 0 [some (.ref this), some (.ref p1)] [] := by
  unfold JX23_isLike
  refine jr_aload_n K dX23_isLike_0 rfl ?_
  refine jr_getI K gf_X23_15 dX23_isLike_1 (fun v1 => ?_)
  refine jr_aload_n K dX23_isLike_4 rfl ?_
  refine jr_getI K gf_X23_15 dX23_isLike_5 (fun v5 => ?_)
  refine jr_join (fun (k23 : JP) => JR p l e R s m args below meth c Q D S0 2 bc bs k23 23 [none, none] []) ?_ (fun k23 hk23 => ?_)
  · refine jr_iconst K dX23_isLike_23 (v := (nI 0)) (by decide) ?_
    exact JR.imp (fun _ h => ⟨Or.inl rfl, h⟩) (hret _ _ _ _ _ dX23_isLike_24)
  refine jr_icmp_ne K (tgt := 23) dX23_isLike_8 (by decide) ?_ ?_
  · exact jr_weak (hk23) trivial
  · refine jr_aload_n K dX23_isLike_11 rfl ?_
    refine jr_aload_n K dX23_isLike_12 rfl ?_
    refine jr_calli0 (jrun_V (As := [.ref p1]) (st := []) (ci := 23) K (metX23_isNearly K.hG this p1 _) mtX23_isNearly mvX23_isNearly q779 rfl rfl rfl (Nat.le_of_ble_eq_true rfl) (by decide) ⟨Nat.zero_le _, Nat.zero_le _⟩ dX23_isLike_13) (fun v13 => ?_)
    refine jr_if_eq K (tgt := 23) dX23_isLike_16 (by decide) ?_ ?_
    · exact jr_weak (hk23) trivial
    · refine jr_iconst K dX23_isLike_19 (v := (nI 1)) (by decide) ?_
      refine jr_goto K (tgt := 24) dX23_isLike_20 (by decide) ?_
      exact JR.imp (fun _ h => ⟨Or.inr rfl, h⟩) (hret _ _ _ _ _ dX23_isLike_24)
theorem metX23_isLike (hG : jG l D S0 A0) (this : Nat) (p1 : Nat) (Qj : Int32 → JP) : Met l yX23_isLike (ws_ yX23_isLike cX23_isLike 2 (some .boolean)) (jrm 13 0 0) (va_Pc [.ref this, .ref p1] (jB D S0 (JX23_isLike this p1 Qj))) (va_Qi Qj (fun σ t => jRep D S0.heap.size σ t.heap) (jA S0)) 0 0 (jA S0) :=
  jr_start hG (by decide) (Nat.le_of_ble_eq_true rfl) rfl fun p e s m below meth c K hr hn => wX23_isLike K _ _ this p1 Qj (fun _ _ _ _ _ d => jr_zret K hr d)
theorem wX8_be (K : JK p l R s m args meth c D S0 A0 2 cX8_be "MoveNotes$Board" 12) (bc bs : Nat) (this : Nat) (p1 : Nat) (Qj : JP) (hret : jRetV p l e R s m args below meth c Q D S0 2 cX8_be Qj) : JR p l e R s m args below meth c Q D S0 2 bc bs (JX8_be this p1 Qj) 0 [some (.ref this), some (.ref p1)] [] := by
  unfold JX8_be
  refine jr_aload_n K dX8_be_0 rfl ?_
  refine jr_getA K gf_X8_9 dX8_be_1 (fun v1 => ?_)
  refine jr_iconst K dX8_be_4 (v := (nI 0)) (by decide) ?_
  refine jr_aload_n K dX8_be_5 rfl ?_
  refine jr_getA K gf_X8_9 dX8_be_6 (fun v6 => ?_)
  refine jr_iconst K dX8_be_9 (v := (nI 0)) (by decide) ?_
  refine jr_bipush K dX8_be_10 (v := (nI 36)) (by decide) ?_
  refine jr_cpyI K q620 (by decide) (Nat.le_of_ble_eq_true rfl) dX8_be_12 ?_
  refine jr_aload_n K dX8_be_15 rfl ?_
  refine jr_getA K gf_X8_15 dX8_be_16 (fun v16 => ?_)
  refine jr_iconst K dX8_be_19 (v := (nI 0)) (by decide) ?_
  refine jr_aload_n K dX8_be_20 rfl ?_
  refine jr_getA K gf_X8_15 dX8_be_21 (fun v21 => ?_)
  refine jr_iconst K dX8_be_24 (v := (nI 0)) (by decide) ?_
  refine jr_bipush K dX8_be_25 (v := (nI 36)) (by decide) ?_
  refine jr_cpyI K q620 (by decide) (Nat.le_of_ble_eq_true rfl) dX8_be_27 ?_
  exact hret _ _ _ _ dX8_be_30
theorem metX8_be (hG : jG l D S0 A0) (this : Nat) (p1 : Nat) (Qj : JP) : Met l yX8_be (ws_ yX8_be cX8_be 2 none) (jrm 12 0 0) (va_Pc [.ref this, .ref p1] (jB D S0 (JX8_be this p1 Qj))) (va_Qv Qj (fun σ t => jRep D S0.heap.size σ t.heap) (jA S0)) 0 0 (jA S0) :=
  jr_start hG (by decide) (Nat.le_of_ble_eq_true rfl) rfl fun p e s m below meth c K hr hn => wX8_be K _ _ this p1 Qj (fun _ _ _ _ d => jr_vret K hr d)
theorem wX8_goes (K : JK p l R s m args meth c D S0 A0 5 cX8_goes "MoveNotes$Board" 12) (bc bs : Nat) (this : Nat) (p1 : Int32) (Qj : Int32 → JP) (hret : jRetI p l e R s m args below meth c Q D S0 5 cX8_goes Qj) : JR p l e R s m args below meth c Q D S0 5 bc bs (JX8_goes this p1 Qj) 0 [some (.ref this), some (.int p1), none, none, none] [] := by
  unfold JX8_goes
  refine jr_iload_n K dX8_goes_0 rfl ?_
  refine jr_bipush K dX8_goes_1 (v := (nI 36)) (by decide) ?_
  refine jr_idiv K dX8_goes_3 (by decide) ?_
  refine jr_istore_n K (L' := [some (.ref this), some (.int p1), some (.int (p1 / (nI 36))), none, none]) dX8_goes_4 (by decide) rfl rfl ?_
  refine jr_iload_n K dX8_goes_5 rfl ?_
  refine jr_bipush K dX8_goes_6 (v := (nI 36)) (by decide) ?_
  refine jr_irem K dX8_goes_8 (by decide) ?_
  refine jr_istore_n K (L' := [some (.ref this), some (.int p1), some (.int (p1 / (nI 36))), some (.int (jrem p1 (nI 36))), none]) dX8_goes_9 (by decide) rfl rfl ?_
  refine jr_aload_n K dX8_goes_10 rfl ?_
  refine jr_getA K gf_X8_9 dX8_goes_11 (fun v11 => ?_)
  refine jr_iload_n K dX8_goes_14 rfl ?_
  refine jr_iald K dX8_goes_15 (fun v15 => ?_)
  refine jr_istore K (L' := [some (.ref this), some (.int p1), some (.int (p1 / (nI 36))), some (.int (jrem p1 (nI 36))), some (.int v15)]) dX8_goes_16 (by decide) rfl rfl ?_
  refine jr_aload_n K dX8_goes_18 rfl ?_
  refine jr_getA K gf_X8_9 dX8_goes_19 (fun v19 => ?_)
  refine jr_iload_n K dX8_goes_22 rfl ?_
  refine jr_aload_n K dX8_goes_23 rfl ?_
  refine jr_getA K gf_X8_9 dX8_goes_24 (fun v24 => ?_)
  refine jr_iload_n K dX8_goes_27 rfl ?_
  refine jr_iald K dX8_goes_28 (fun v28 => ?_)
  refine jr_iast K dX8_goes_29 ?_
  refine jr_aload_n K dX8_goes_30 rfl ?_
  refine jr_getA K gf_X8_15 dX8_goes_31 (fun v31 => ?_)
  refine jr_iload_n K dX8_goes_34 rfl ?_
  refine jr_aload_n K dX8_goes_35 rfl ?_
  refine jr_getA K gf_X8_15 dX8_goes_36 (fun v36 => ?_)
  refine jr_iload_n K dX8_goes_39 rfl ?_
  refine jr_iald K dX8_goes_40 (fun v40 => ?_)
  refine jr_iast K dX8_goes_41 ?_
  refine jr_aload_n K dX8_goes_42 rfl ?_
  refine jr_getA K gf_X8_9 dX8_goes_43 (fun v43 => ?_)
  refine jr_iload_n K dX8_goes_46 rfl ?_
  refine jr_iconst K dX8_goes_47 (v := (-1)) (by decide) ?_
  refine jr_iast K dX8_goes_48 ?_
  refine jr_iload K dX8_goes_49 rfl ?_
  exact hret _ _ _ _ _ dX8_goes_51
theorem metX8_goes (hG : jG l D S0 A0) (this : Nat) (p1 : Int32) (Qj : Int32 → JP) : Met l yX8_goes (ws_ yX8_goes cX8_goes 5 (some .int)) (jrm 12 0 0) (va_Pc [.ref this, .int p1] (jB D S0 (JX8_goes this p1 Qj))) (va_Qi Qj (fun σ t => jRep D S0.heap.size σ t.heap) (jA S0)) 0 0 (jA S0) :=
  jr_start hG (by decide) (Nat.le_of_ble_eq_true rfl) rfl fun p e s m below meth c K hr hn => wX8_goes K _ _ this p1 Qj (fun _ _ _ _ _ d => jr_iret K hr rfl d)
theorem wX24_init (K : JK p l R s m args meth c D S0 A0 5 cX24_init "MoveNotes$Picture" 12) (hn : meth.name = "<init>") (bc bs : Nat) (this : Nat) (p1 : Int32) (p2 : Int32) (p3 : Int32) (p4 : Int32) (Qj : JP) (hret : jRetV p l e R s m args below meth c Q D S0 5 cX24_init Qj) : JR p l e R s m args below meth c Q D S0 5 bc bs (JX24_init this p1 p2 p3 p4 Qj) 0 [some (.ref this), some (.int p1), some (.int p2), some (.int p3), some (.int p4)] [] := by
  unfold JX24_init
  refine jr_aload_n K dX24_init_0 rfl ?_
  refine jr_objInit K q1348 dX24_init_1 (by decide) (Nat.le_of_ble_eq_true rfl) ?_
  refine jr_aload_n K dX24_init_4 rfl ?_
  refine jr_iload_n K dX24_init_5 rfl ?_
  refine jr_put K (pf_X24_9 hn) dX24_init_6 rfl rfl ?_
  refine jr_aload_n K dX24_init_9 rfl ?_
  refine jr_iload_n K dX24_init_10 rfl ?_
  refine jr_put K (pf_X24_15 hn) dX24_init_11 rfl rfl ?_
  refine jr_aload_n K dX24_init_14 rfl ?_
  refine jr_iload_n K dX24_init_15 rfl ?_
  refine jr_put K (pf_X24_18 hn) dX24_init_16 rfl rfl ?_
  refine jr_aload_n K dX24_init_19 rfl ?_
  refine jr_iload K dX24_init_20 rfl ?_
  refine jr_put K (pf_X24_21 hn) dX24_init_22 rfl rfl ?_
  exact hret _ _ _ _ dX24_init_25
theorem metX24_init (hG : jG l D S0 A0) (this : Nat) (p1 : Int32) (p2 : Int32) (p3 : Int32) (p4 : Int32) (Qj : JP) : Met l yX24_init (ws_ yX24_init cX24_init 5 none) (jrm 12 0 0) (va_Pc [.ref this, .int p1, .int p2, .int p3, .int p4] (jB D S0 (JX24_init this p1 p2 p3 p4 Qj))) (va_Qv Qj (fun σ t => jRep D S0.heap.size σ t.heap) (jA S0)) 0 0 (jA S0) :=
  jr_start hG (by decide) (Nat.le_of_ble_eq_true rfl) rfl fun p e s m below meth c K hr hn => wX24_init K hn _ _ this p1 p2 p3 p4 Qj (fun _ _ _ _ d => jr_vret K hr d)
theorem wX24_is (K : JK p l R s m args meth c D S0 A0 2 cX24_is "MoveNotes$Picture" 12) (bc bs : Nat) (this : Nat) (p1 : Nat) (Qj : Int32 → JP) (hret : jRetZ p l e R s m args below meth c Q D S0 2 cX24_is Qj) : JR p l e R s m args below meth c Q D S0 2 bc bs (JX24_is this p1 Qj) 0 [some (.ref this), some (.ref p1)] [] := by
  unfold JX24_is
  refine jr_aload_n K dX24_is_0 rfl ?_
  refine jr_getA K gf_X24_24 dX24_is_1 (fun v1 => ?_)
  refine jr_aload_n K dX24_is_4 rfl ?_
  refine jr_getI K gf_X24_15 dX24_is_5 (fun v5 => ?_)
  refine jr_iald K dX24_is_8 (fun v8 => ?_)
  refine jr_aload_n K dX24_is_9 rfl ?_
  refine jr_getI K gf_X24_18 dX24_is_10 (fun v10 => ?_)
  refine jr_join (fun (k44 : JP) => JR p l e R s m args below meth c Q D S0 2 bc bs k44 44 [none, none] []) ?_ (fun k44 hk44 => ?_)
  · refine jr_iconst K dX24_is_44 (v := (nI 0)) (by decide) ?_
    exact JR.imp (fun _ h => ⟨Or.inl rfl, h⟩) (hret _ _ _ _ _ dX24_is_45)
  refine jr_icmp_ne K (tgt := 44) dX24_is_13 (by decide) ?_ ?_
  · exact jr_weak (hk44) trivial
  · refine jr_aload_n K dX24_is_16 rfl ?_
    refine jr_getI K gf_X24_18 dX24_is_17 (fun v17 => ?_)
    refine jr_iconst K dX24_is_20 (v := (-1)) (by decide) ?_
    refine jr_join (fun (k40 : JP) => JR p l e R s m args below meth c Q D S0 2 bc bs k40 40 [none, none] []) ?_ (fun k40 hk40 => ?_)
    · refine jr_iconst K dX24_is_40 (v := (nI 1)) (by decide) ?_
      refine jr_goto K (tgt := 45) dX24_is_41 (by decide) ?_
      exact JR.imp (fun _ h => ⟨Or.inr rfl, h⟩) (hret _ _ _ _ _ dX24_is_45)
    refine jr_icmp_eq K (tgt := 40) dX24_is_21 (by decide) ?_ ?_
    · exact jr_weak (hk40) trivial
    · refine jr_aload_n K dX24_is_24 rfl ?_
      refine jr_getA K gf_X24_29 dX24_is_25 (fun v25 => ?_)
      refine jr_aload_n K dX24_is_28 rfl ?_
      refine jr_getI K gf_X24_15 dX24_is_29 (fun v29 => ?_)
      refine jr_iald K dX24_is_32 (fun v32 => ?_)
      refine jr_aload_n K dX24_is_33 rfl ?_
      refine jr_getI K gf_X24_21 dX24_is_34 (fun v34 => ?_)
      refine jr_icmp_ne K (tgt := 44) dX24_is_37 (by decide) ?_ ?_
      · exact jr_weak (hk44) trivial
      · exact jr_weak (hk40) trivial
theorem metX24_is (hG : jG l D S0 A0) (this : Nat) (p1 : Nat) (Qj : Int32 → JP) : Met l yX24_is (ws_ yX24_is cX24_is 2 (some .boolean)) (jrm 12 0 0) (va_Pc [.ref this, .ref p1] (jB D S0 (JX24_is this p1 Qj))) (va_Qi Qj (fun σ t => jRep D S0.heap.size σ t.heap) (jA S0)) 0 0 (jA S0) :=
  jr_start hG (by decide) (Nat.le_of_ble_eq_true rfl) rfl fun p e s m below meth c K hr hn => wX24_is K _ _ this p1 Qj (fun _ _ _ _ _ d => jr_zret K hr d)
theorem wX8_men_4 (K : JK p l R s m args meth c D S0 A0 4 cX8_men "MoveNotes$Board" 12) (bc bs : Nat) (this : Nat) (p1 : Int32) (Qj : Int32 → JP) (hret : jRetI p l e R s m args below meth c Q D S0 4 cX8_men Qj) : ∀ (n : Nat) (x2_4 : Int32) (x3_4 : Int32), JR p l e R s m args below meth c Q D S0 4 bc bs (jit (FX8_men_4 this p1 Qj) (fun _ _ => jbot) n x2_4 x3_4) 4 [some (.ref this), some (.int p1), some (.int x2_4), some (.int x3_4)] [] := by
  intro n
  induction n with
  | zero =>
    intro x2_4 x3_4
    exact JR.bot
  | succ n ih4 =>
    intro x2_4 x3_4
    show JR p l e R s m args below meth c Q D S0 4 bc bs (FX8_men_4 this p1 Qj (jit (FX8_men_4 this p1 Qj) (fun _ _ => jbot) n) x2_4 x3_4) 4 [some (.ref this), some (.int p1), some (.int x2_4), some (.int x3_4)] []
    generalize jit (FX8_men_4 this p1 Qj) (fun _ _ => jbot) n = rec4 at ih4 ⊢
    unfold FX8_men_4
    refine jr_iload_n K dX8_men_4 rfl ?_
    refine jr_bipush K dX8_men_5 (v := (nI 36)) (by decide) ?_
    refine jr_icmp_ge K (tgt := 44) dX8_men_7 (by decide) ?_ ?_
    · refine jr_iload_n K dX8_men_44 rfl ?_
      exact hret _ _ _ _ _ dX8_men_45
    · refine jr_iload_n K dX8_men_10 rfl ?_
      refine jr_aload_n K dX8_men_11 rfl ?_
      refine jr_getA K gf_X8_9 dX8_men_12 (fun v12 => ?_)
      refine jr_iload_n K dX8_men_15 rfl ?_
      refine jr_iald K dX8_men_16 (fun v16 => ?_)
      refine jr_iconst K dX8_men_17 (v := (-1)) (by decide) ?_
      refine jr_join (fun (k36 : Int32 → JP) => ∀ (s1_36 : Int32), JR p l e R s m args below meth c Q D S0 4 bc bs (k36 s1_36) 36 [some (.ref this), some (.int p1), none, some (.int x3_4)] [.int s1_36, .int x2_4]) ?_ (fun k36 hk36 => ?_)
      · intro s1_36
        refine jr_iadd K dX8_men_36 ?_
        refine jr_istore_n K (L' := [some (.ref this), some (.int p1), some (.int (x2_4 + s1_36)), some (.int x3_4)]) dX8_men_37 (by decide) rfl rfl ?_
        refine jr_iinc K (v := (x3_4 + (nI 1))) (L' := [some (.ref this), some (.int p1), some (.int (x2_4 + s1_36)), some (.int (x3_4 + (nI 1)))]) dX8_men_38 rfl rfl (by decide) rfl rfl ?_
        refine jr_goto K (tgt := 4) dX8_men_41 (by decide) ?_
        exact jr_weak (ih4 (x2_4 + s1_36) (x3_4 + (nI 1))) ⟨rfl, rfl, rfl, rfl, trivial⟩
      refine jr_join (fun (k35 : JP) => JR p l e R s m args below meth c Q D S0 4 bc bs k35 35 [some (.ref this), some (.int p1), none, some (.int x3_4)] [.int x2_4]) ?_ (fun k35 hk35 => ?_)
      · refine jr_iconst K dX8_men_35 (v := (nI 0)) (by decide) ?_
        exact jr_weak (hk36 (nI 0)) ⟨rfl, rfl, rfl, trivial⟩
      refine jr_icmp_eq K (tgt := 35) dX8_men_18 (by decide) ?_ ?_
      · exact jr_weak (hk35) ⟨rfl, rfl, rfl, trivial⟩
      · refine jr_aload_n K dX8_men_21 rfl ?_
        refine jr_getA K gf_X8_15 dX8_men_22 (fun v22 => ?_)
        refine jr_iload_n K dX8_men_25 rfl ?_
        refine jr_iald K dX8_men_26 (fun v26 => ?_)
        refine jr_iload_n K dX8_men_27 rfl ?_
        refine jr_icmp_ne K (tgt := 35) dX8_men_28 (by decide) ?_ ?_
        · exact jr_weak (hk35) ⟨rfl, rfl, rfl, trivial⟩
        · refine jr_iconst K dX8_men_31 (v := (nI 1)) (by decide) ?_
          refine jr_goto K (tgt := 36) dX8_men_32 (by decide) ?_
          exact jr_weak (hk36 (nI 1)) ⟨rfl, rfl, rfl, trivial⟩
theorem wX8_men (K : JK p l R s m args meth c D S0 A0 4 cX8_men "MoveNotes$Board" 12) (bc bs : Nat) (this : Nat) (p1 : Int32) (Qj : Int32 → JP) (hret : jRetI p l e R s m args below meth c Q D S0 4 cX8_men Qj) : JR p l e R s m args below meth c Q D S0 4 bc bs (JX8_men this p1 Qj) 0 [some (.ref this), some (.int p1), none, none] [] := by
  unfold JX8_men
  refine jr_iconst K dX8_men_0 (v := (nI 0)) (by decide) ?_
  refine jr_istore_n K (L' := [some (.ref this), some (.int p1), some (.int (nI 0)), none]) dX8_men_1 (by decide) rfl rfl ?_
  refine jr_iconst K dX8_men_2 (v := (nI 0)) (by decide) ?_
  refine jr_istore_n K (L' := [some (.ref this), some (.int p1), some (.int (nI 0)), some (.int (nI 0))]) dX8_men_3 (by decide) rfl rfl ?_
  refine jr_ex (fun n4 => ?_)
  refine jr_weak (wX8_men_4 K bc bs this p1 Qj hret n4 (nI 0) (nI 0)) ⟨rfl, rfl, rfl, rfl, trivial⟩
theorem metX8_men (hG : jG l D S0 A0) (this : Nat) (p1 : Int32) (Qj : Int32 → JP) : Met l yX8_men (ws_ yX8_men cX8_men 4 (some .int)) (jrm 12 0 0) (va_Pc [.ref this, .int p1] (jB D S0 (JX8_men this p1 Qj))) (va_Qi Qj (fun σ t => jRep D S0.heap.size σ t.heap) (jA S0)) 0 0 (jA S0) :=
  jr_start hG (by decide) (Nat.le_of_ble_eq_true rfl) rfl fun p e s m below meth c K hr hn => wX8_men K _ _ this p1 Qj (fun _ _ _ _ _ d => jr_iret K hr rfl d)
theorem wX18_holds (K : JK p l R s m args meth c D S0 A0 2 cX18_holds "MoveNotes$Tag" 12) (bc bs : Nat) (this : Nat) (p1 : Nat) (Qj : Int32 → JP) (hret : jRetZ p l e R s m args below meth c Q D S0 2 cX18_holds Qj) : JR p l e R s m args below meth c Q D S0 2 bc bs (JX18_holds this p1 Qj) 0 [some (.ref this), some (.ref p1)] [] := by
  unfold JX18_holds
  refine jr_aload_n K dX18_holds_0 rfl ?_
  refine jr_aload_n K dX18_holds_1 rfl ?_
  refine jr_getI K gf_X18_7 dX18_holds_2 (fun v2 => ?_)
  refine jr_iald K dX18_holds_5 (fun v5 => ?_)
  refine jr_if_eq K (tgt := 13) dX18_holds_6 (by decide) ?_ ?_
  · refine jr_iconst K dX18_holds_13 (v := (nI 0)) (by decide) ?_
    exact JR.imp (fun _ h => ⟨Or.inl rfl, h⟩) (hret _ _ _ _ _ dX18_holds_14)
  · refine jr_iconst K dX18_holds_9 (v := (nI 1)) (by decide) ?_
    refine jr_goto K (tgt := 14) dX18_holds_10 (by decide) ?_
    exact JR.imp (fun _ h => ⟨Or.inr rfl, h⟩) (hret _ _ _ _ _ dX18_holds_14)
theorem metX18_holds (hG : jG l D S0 A0) (this : Nat) (p1 : Nat) (Qj : Int32 → JP) : Met l yX18_holds (ws_ yX18_holds cX18_holds 2 (some .boolean)) (jrm 12 0 0) (va_Pc [.ref this, .ref p1] (jB D S0 (JX18_holds this p1 Qj))) (va_Qi Qj (fun σ t => jRep D S0.heap.size σ t.heap) (jA S0)) 0 0 (jA S0) :=
  jr_start hG (by decide) (Nat.le_of_ble_eq_true rfl) rfl fun p e s m below meth c K hr hn => wX18_holds K _ _ this p1 Qj (fun _ _ _ _ _ d => jr_zret K hr d)
theorem wX19_of_7 (K : JK p l R s m args meth c D S0 A0 4 cX19_of "MoveNotes$Sum" 12) (bc bs : Nat) (this : Nat) (p1 : Nat) (Qj : Int32 → JP) (hret : jRetI p l e R s m args below meth c Q D S0 4 cX19_of Qj) : ∀ (n : Nat) (x2_7 : Int32) (x3_7 : Int32), JR p l e R s m args below meth c Q D S0 4 bc bs (jit (FX19_of_7 this p1 Qj) (fun _ _ => jbot) n x2_7 x3_7) 7 [some (.ref this), some (.ref p1), some (.int x2_7), some (.int x3_7)] [] := by
  intro n
  induction n with
  | zero =>
    intro x2_7 x3_7
    exact JR.bot
  | succ n ih7 =>
    intro x2_7 x3_7
    show JR p l e R s m args below meth c Q D S0 4 bc bs (FX19_of_7 this p1 Qj (jit (FX19_of_7 this p1 Qj) (fun _ _ => jbot) n) x2_7 x3_7) 7 [some (.ref this), some (.ref p1), some (.int x2_7), some (.int x3_7)] []
    generalize jit (FX19_of_7 this p1 Qj) (fun _ _ => jbot) n = rec7 at ih7 ⊢
    unfold FX19_of_7
    refine jr_iload_n K dX19_of_7 rfl ?_
    refine jr_iconst K dX19_of_8 (v := (nI 4)) (by decide) ?_
    refine jr_icmp_ge K (tgt := 31) dX19_of_9 (by decide) ?_ ?_
    · refine jr_iload_n K dX19_of_31 rfl ?_
      exact hret _ _ _ _ _ dX19_of_32
    · refine jr_iload_n K dX19_of_12 rfl ?_
      refine jr_aload_n K dX19_of_13 rfl ?_
      refine jr_getA K gf_X19_9 dX19_of_14 (fun v14 => ?_)
      refine jr_iload_n K dX19_of_17 rfl ?_
      refine jr_iald K dX19_of_18 (fun v18 => ?_)
      refine jr_aload_n K dX19_of_19 rfl ?_
      refine jr_iload_n K dX19_of_20 rfl ?_
      refine jr_iald K dX19_of_21 (fun v21 => ?_)
      refine jr_imul K dX19_of_22 ?_
      refine jr_iadd K dX19_of_23 ?_
      refine jr_istore_n K (L' := [some (.ref this), some (.ref p1), some (.int (x2_7 + (v18 * v21))), some (.int x3_7)]) dX19_of_24 (by decide) rfl rfl ?_
      refine jr_iinc K (v := (x3_7 + (nI 1))) (L' := [some (.ref this), some (.ref p1), some (.int (x2_7 + (v18 * v21))), some (.int (x3_7 + (nI 1)))]) dX19_of_25 rfl rfl (by decide) rfl rfl ?_
      refine jr_goto K (tgt := 7) dX19_of_28 (by decide) ?_
      exact jr_weak (ih7 (x2_7 + (v18 * v21)) (x3_7 + (nI 1))) ⟨rfl, rfl, rfl, rfl, trivial⟩
theorem wX19_of (K : JK p l R s m args meth c D S0 A0 4 cX19_of "MoveNotes$Sum" 12) (bc bs : Nat) (this : Nat) (p1 : Nat) (Qj : Int32 → JP) (hret : jRetI p l e R s m args below meth c Q D S0 4 cX19_of Qj) : JR p l e R s m args below meth c Q D S0 4 bc bs (JX19_of this p1 Qj) 0 [some (.ref this), some (.ref p1), none, none] [] := by
  unfold JX19_of
  refine jr_aload_n K dX19_of_0 rfl ?_
  refine jr_getI K gf_X19_15 dX19_of_1 (fun v1 => ?_)
  refine jr_istore_n K (L' := [some (.ref this), some (.ref p1), some (.int v1), none]) dX19_of_4 (by decide) rfl rfl ?_
  refine jr_iconst K dX19_of_5 (v := (nI 0)) (by decide) ?_
  refine jr_istore_n K (L' := [some (.ref this), some (.ref p1), some (.int v1), some (.int (nI 0))]) dX19_of_6 (by decide) rfl rfl ?_
  refine jr_ex (fun n7 => ?_)
  refine jr_weak (wX19_of_7 K bc bs this p1 Qj hret n7 v1 (nI 0)) ⟨rfl, rfl, rfl, rfl, trivial⟩
theorem metX19_of (hG : jG l D S0 A0) (this : Nat) (p1 : Nat) (Qj : Int32 → JP) : Met l yX19_of (ws_ yX19_of cX19_of 4 (some .int)) (jrm 12 0 0) (va_Pc [.ref this, .ref p1] (jB D S0 (JX19_of this p1 Qj))) (va_Qi Qj (fun σ t => jRep D S0.heap.size σ t.heap) (jA S0)) 0 0 (jA S0) :=
  jr_start hG (by decide) (Nat.le_of_ble_eq_true rfl) rfl fun p e s m below meth c K hr hn => wX19_of K _ _ this p1 Qj (fun _ _ _ _ _ d => jr_iret K hr rfl d)
theorem wX23_slip (K : JK p l R s m args meth c D S0 A0 14 cX23_slip "MoveNotes$Note" 13) (bc bs : Nat) (this : Nat) (p1 : Int32) (p2 : Int32) (p3 : Int32) (p4 : Int32) (p5 : Nat) (Qj : Int32 → JP) (hret : jRetI p l e R s m args below meth c Q D S0 14 cX23_slip Qj) : JR p l e R s m args below meth c Q D S0 14 bc bs (JX23_slip this p1 p2 p3 p4 p5 Qj) 0 [some (.ref this), some (.int p1), some (.int p2), some (.int p3), some (.int p4), some (.ref p5), none, none, none, none, none, none, none, none] [] := by
  unfold JX23_slip
  refine jr_iload K dX23_slip_0 rfl ?_
  refine jr_bipush K dX23_slip_2 (v := (nI 36)) (by decide) ?_
  refine jr_idiv K dX23_slip_4 (by decide) ?_
  refine jr_bipush K dX23_slip_5 (v := (nI 6)) (by decide) ?_
  refine jr_irem K dX23_slip_7 (by decide) ?_
  refine jr_istore K (L' := [some (.ref this), some (.int p1), some (.int p2), some (.int p3), some (.int p4), some (.ref p5), some (.int (jrem (p4 / (nI 36)) (nI 6))), none, none, none, none, none, none, none]) dX23_slip_8 (by decide) rfl rfl ?_
  refine jr_iload K dX23_slip_10 rfl ?_
  refine jr_bipush K dX23_slip_12 (v := (nI 36)) (by decide) ?_
  refine jr_irem K dX23_slip_14 (by decide) ?_
  refine jr_bipush K dX23_slip_15 (v := (nI 6)) (by decide) ?_
  refine jr_irem K dX23_slip_17 (by decide) ?_
  refine jr_istore K (L' := [some (.ref this), some (.int p1), some (.int p2), some (.int p3), some (.int p4), some (.ref p5), some (.int (jrem (p4 / (nI 36)) (nI 6))), some (.int (jrem (jrem p4 (nI 36)) (nI 6))), none, none, none, none, none, none]) dX23_slip_18 (by decide) rfl rfl ?_
  refine jr_iload K dX23_slip_20 rfl ?_
  refine jr_bipush K dX23_slip_22 (v := (nI 36)) (by decide) ?_
  refine jr_irem K dX23_slip_24 (by decide) ?_
  refine jr_bipush K dX23_slip_25 (v := (nI 6)) (by decide) ?_
  refine jr_idiv K dX23_slip_27 (by decide) ?_
  refine jr_istore K (L' := [some (.ref this), some (.int p1), some (.int p2), some (.int p3), some (.int p4), some (.ref p5), some (.int (jrem (p4 / (nI 36)) (nI 6))), some (.int (jrem (jrem p4 (nI 36)) (nI 6))), some (.int ((jrem p4 (nI 36)) / (nI 6))), none, none, none, none, none]) dX23_slip_28 (by decide) rfl rfl ?_
  refine jr_iload_n K dX23_slip_30 rfl ?_
  refine jr_iconst K dX23_slip_31 (v := (nI 1)) (by decide) ?_
  refine jr_join (fun (k49 : Int32 → JP) => ∀ (s0_49 : Int32), JR p l e R s m args below meth c Q D S0 14 bc bs (k49 s0_49) 49 [some (.ref this), none, some (.int p2), none, none, some (.ref p5), some (.int (jrem (p4 / (nI 36)) (nI 6))), some (.int (jrem (jrem p4 (nI 36)) (nI 6))), none, none, none, none, none, none] [.int s0_49]) ?_ (fun k49 hk49 => ?_)
  · intro s0_49
    refine jr_istore K (L' := [some (.ref this), none, some (.int p2), none, none, some (.ref p5), some (.int (jrem (p4 / (nI 36)) (nI 6))), some (.int (jrem (jrem p4 (nI 36)) (nI 6))), none, some (.int s0_49), none, none, none, none]) dX23_slip_49 (by decide) rfl rfl ?_
    refine jr_aload_n K dX23_slip_51 rfl ?_
    refine jr_getI K gf_X23_9 dX23_slip_52 (fun v52 => ?_)
    refine jr_iload_n K dX23_slip_55 rfl ?_
    refine jr_join (fun (k64 : Int32 → JP) => ∀ (s0_64 : Int32), JR p l e R s m args below meth c Q D S0 14 bc bs (k64 s0_64) 64 [some (.ref this), none, none, none, none, some (.ref p5), some (.int (jrem (p4 / (nI 36)) (nI 6))), some (.int (jrem (jrem p4 (nI 36)) (nI 6))), none, some (.int s0_49), none, none, none, none] [.int s0_64]) ?_ (fun k64 hk64 => ?_)
    · intro s0_64
      refine jr_aload_n K dX23_slip_64 rfl ?_
      refine jr_getI K gf_X23_18 dX23_slip_65 (fun v65 => ?_)
      refine jr_iload K dX23_slip_68 rfl ?_
      refine jr_join (fun (k78 : Int32 → JP) => ∀ (s1_78 : Int32), JR p l e R s m args below meth c Q D S0 14 bc bs (k78 s1_78) 78 [some (.ref this), none, none, none, none, some (.ref p5), some (.int (jrem (p4 / (nI 36)) (nI 6))), some (.int (jrem (jrem p4 (nI 36)) (nI 6))), none, some (.int s0_49), none, none, none, none] [.int s1_78, .int s0_64]) ?_ (fun k78 hk78 => ?_)
      · intro s1_78
        refine jr_ior K dX23_slip_78 ?_
        refine jr_aload_n K dX23_slip_79 rfl ?_
        refine jr_getI K gf_X23_21 dX23_slip_80 (fun v80 => ?_)
        refine jr_iload K dX23_slip_83 rfl ?_
        refine jr_join (fun (k94 : Int32 → JP) => ∀ (s1_94 : Int32), JR p l e R s m args below meth c Q D S0 14 bc bs (k94 s1_94) 94 [some (.ref this), none, none, none, none, some (.ref p5), some (.int (jrem (p4 / (nI 36)) (nI 6))), some (.int (jrem (jrem p4 (nI 36)) (nI 6))), none, some (.int s0_49), none, none, none, none] [.int s1_94, .int (s0_64 ||| s1_78)]) ?_ (fun k94 hk94 => ?_)
        · intro s1_94
          refine jr_ior K dX23_slip_94 ?_
          refine jr_aload_n K dX23_slip_95 rfl ?_
          refine jr_getI K gf_X23_15 dX23_slip_96 (fun v96 => ?_)
          refine jr_iconst K dX23_slip_99 (v := (-1)) (by decide) ?_
          refine jr_join (fun (k118 : Int32 → JP) => ∀ (s1_118 : Int32), JR p l e R s m args below meth c Q D S0 14 bc bs (k118 s1_118) 118 [some (.ref this), none, none, none, none, some (.ref p5), none, some (.int (jrem (jrem p4 (nI 36)) (nI 6))), none, some (.int s0_49), none, none, none, none] [.int s1_118, .int ((s0_64 ||| s1_78) ||| s1_94)]) ?_ (fun k118 hk118 => ?_)
          · intro s1_118
            refine jr_ior K dX23_slip_118 ?_
            refine jr_istore K (L' := [some (.ref this), none, none, none, none, some (.ref p5), none, some (.int (jrem (jrem p4 (nI 36)) (nI 6))), none, some (.int s0_49), some (.int (((s0_64 ||| s1_78) ||| s1_94) ||| s1_118)), none, none, none]) dX23_slip_119 (by decide) rfl rfl ?_
            refine jr_iload K dX23_slip_121 rfl ?_
            refine jr_if_ne K (tgt := 128) dX23_slip_123 (by decide) ?_ ?_
            · refine jr_iload K dX23_slip_128 rfl ?_
              refine jr_calli0 (jrun_S (As := [.int (((s0_64 ||| s1_78) ||| s1_94) ||| s1_118)]) (st := []) K (metJ13_bitCount K.hG (((s0_64 ||| s1_78) ||| s1_94) ||| s1_118) _) mtJ13_bitCount q761 q760 rfl rfl (Nat.le_of_ble_eq_true rfl) (by decide) ⟨Nat.zero_le _, Nat.zero_le _⟩ dX23_slip_130) (fun v130 => ?_)
              refine jr_iconst K dX23_slip_133 (v := (nI 1)) (by decide) ?_
              refine jr_icmp_le K (tgt := 139) dX23_slip_134 (by decide) ?_ ?_
              · refine jr_iload K dX23_slip_139 rfl ?_
                refine jr_calli0 (jrun_S (As := [.int (((s0_64 ||| s1_78) ||| s1_94) ||| s1_118)]) (st := []) K (metJ13_numberOfTrailingZeros K.hG (((s0_64 ||| s1_78) ||| s1_94) ||| s1_118) _) mtJ13_numberOfTrailingZeros q767 q766 rfl rfl (Nat.le_of_ble_eq_true rfl) (by decide) ⟨Nat.zero_le _, Nat.zero_le _⟩ dX23_slip_141) (fun v141 => ?_)
                refine jr_istore K (L' := [some (.ref this), none, none, none, none, some (.ref p5), none, some (.int (jrem (jrem p4 (nI 36)) (nI 6))), none, some (.int s0_49), some (.int (((s0_64 ||| s1_78) ||| s1_94) ||| s1_118)), some (.int v141), none, none]) dX23_slip_144 (by decide) rfl rfl ?_
                refine jr_iload K dX23_slip_146 rfl ?_
                refine jr_iconst K dX23_slip_148 (v := (nI 2)) (by decide) ?_
                refine jr_icmp_ne K (tgt := 179) dX23_slip_149 (by decide) ?_ ?_
                · refine jr_iload K dX23_slip_179 rfl ?_
                  refine jr_iconst K dX23_slip_181 (v := (nI 3)) (by decide) ?_
                  refine jr_icmp_eq K (tgt := 200) dX23_slip_182 (by decide) ?_ ?_
                  · refine jr_aload_n K dX23_slip_200 rfl ?_
                    refine jr_getI K gf_X23_21 dX23_slip_201 (fun v201 => ?_)
                    refine jr_iload K dX23_slip_204 rfl ?_
                    refine jr_isub K dX23_slip_206 ?_
                    refine jr_abs K q770 (by decide) (Nat.le_of_ble_eq_true rfl) dX23_slip_207 ?_
                    refine jr_iconst K dX23_slip_210 (v := (nI 1)) (by decide) ?_
                    refine jr_join (fun (k226 : Int32 → JP) => ∀ (s0_226 : Int32), JR p l e R s m args below meth c Q D S0 14 bc bs (k226 s0_226) 226 [some (.ref this), none, none, none, none, some (.ref p5), none, none, none, some (.int s0_49), none, none, none, none] [.int s0_226]) ?_ (fun k226 hk226 => ?_)
                    · intro s0_226
                      refine jr_istore K (L' := [some (.ref this), none, none, none, none, some (.ref p5), none, none, none, some (.int s0_49), none, none, some (.int s0_226), none]) dX23_slip_226 (by decide) rfl rfl ?_
                      refine jr_iconst K dX23_slip_228 (v := (nI 5)) (by decide) ?_
                      refine jr_aload_n K dX23_slip_229 rfl ?_
                      refine jr_getI K gf_X23_21 dX23_slip_230 (fun v230 => ?_)
                      refine jr_isub K dX23_slip_233 ?_
                      refine jr_iload K dX23_slip_234 rfl ?_
                      refine jr_join (fun (k251 : Int32 → JP) => ∀ (s0_251 : Int32), JR p l e R s m args below meth c Q D S0 14 bc bs (k251 s0_251) 251 [none, none, none, none, none, some (.ref p5), none, none, none, none, none, none, some (.int s0_226), none] [.int s0_251]) ?_ (fun k251 hk251 => ?_)
                      · intro s0_251
                        refine jr_istore K (L' := [none, none, none, none, none, some (.ref p5), none, none, none, none, none, none, some (.int s0_226), some (.int s0_251)]) dX23_slip_251 (by decide) rfl rfl ?_
                        refine jr_iload K dX23_slip_253 rfl ?_
                        refine jr_join (fun (k282 : JP) => JR p l e R s m args below meth c Q D S0 14 bc bs k282 282 [none, none, none, none, none, none, none, none, none, none, none, none, some (.int s0_226), some (.int s0_251)] []) ?_ (fun k282 hk282 => ?_)
                        · refine jr_iload K dX23_slip_282 rfl ?_
                          refine jr_if_eq K (tgt := 291) dX23_slip_284 (by decide) ?_ ?_
                          · refine jr_iload K dX23_slip_291 rfl ?_
                            refine jr_if_eq K (tgt := 300) dX23_slip_293 (by decide) ?_ ?_
                            · refine jr_iconst K dX23_slip_300 (v := (-1)) (by decide) ?_
                              exact hret _ _ _ _ _ dX23_slip_301
                            · refine jr_iconst K dX23_slip_296 (v := (nI 4)) (by decide) ?_
                              refine jr_goto K (tgt := 301) dX23_slip_297 (by decide) ?_
                              exact hret _ _ _ _ _ dX23_slip_301
                          · refine jr_iconst K dX23_slip_287 (v := (nI 3)) (by decide) ?_
                            refine jr_goto K (tgt := 301) dX23_slip_288 (by decide) ?_
                            exact hret _ _ _ _ _ dX23_slip_301
                        refine jr_if_eq K (tgt := 282) dX23_slip_255 (by decide) ?_ ?_
                        · exact jr_weak (hk282) ⟨rfl, rfl, trivial⟩
                        · refine jr_iload K dX23_slip_258 rfl ?_
                          refine jr_if_eq K (tgt := 282) dX23_slip_260 (by decide) ?_ ?_
                          · exact jr_weak (hk282) ⟨rfl, rfl, trivial⟩
                          · refine jr_aload K dX23_slip_263 rfl ?_
                            refine jr_iconst K dX23_slip_265 (v := (nI 4)) (by decide) ?_
                            refine jr_iald K dX23_slip_266 (fun v266 => ?_)
                            refine jr_aload K dX23_slip_267 rfl ?_
                            refine jr_iconst K dX23_slip_269 (v := (nI 3)) (by decide) ?_
                            refine jr_iald K dX23_slip_270 (fun v270 => ?_)
                            refine jr_icmp_ge K (tgt := 278) dX23_slip_271 (by decide) ?_ ?_
                            · refine jr_iconst K dX23_slip_278 (v := (nI 3)) (by decide) ?_
                              refine jr_goto K (tgt := 301) dX23_slip_279 (by decide) ?_
                              exact hret _ _ _ _ _ dX23_slip_301
                            · refine jr_iconst K dX23_slip_274 (v := (nI 4)) (by decide) ?_
                              refine jr_goto K (tgt := 301) dX23_slip_275 (by decide) ?_
                              exact hret _ _ _ _ _ dX23_slip_301
                      refine jr_join (fun (k250 : JP) => JR p l e R s m args below meth c Q D S0 14 bc bs k250 250 [none, none, none, none, none, some (.ref p5), none, none, none, none, none, none, some (.int s0_226), none] []) ?_ (fun k250 hk250 => ?_)
                      · refine jr_iconst K dX23_slip_250 (v := (nI 0)) (by decide) ?_
                        exact jr_weak (hk251 (nI 0)) ⟨rfl, rfl, trivial⟩
                      refine jr_icmp_ne K (tgt := 250) dX23_slip_236 (by decide) ?_ ?_
                      · exact jr_weak (hk250) ⟨rfl, rfl, trivial⟩
                      · refine jr_aload K dX23_slip_239 rfl ?_
                        refine jr_iconst K dX23_slip_241 (v := (nI 4)) (by decide) ?_
                        refine jr_iald K dX23_slip_242 (fun v242 => ?_)
                        refine jr_if_le K (tgt := 250) dX23_slip_243 (by decide) ?_ ?_
                        · exact jr_weak (hk250) ⟨rfl, rfl, trivial⟩
                        · refine jr_iconst K dX23_slip_246 (v := (nI 1)) (by decide) ?_
                          refine jr_goto K (tgt := 251) dX23_slip_247 (by decide) ?_
                          exact jr_weak (hk251 (nI 1)) ⟨rfl, rfl, trivial⟩
                    refine jr_join (fun (k225 : JP) => JR p l e R s m args below meth c Q D S0 14 bc bs k225 225 [some (.ref this), none, none, none, none, some (.ref p5), none, none, none, some (.int s0_49), none, none, none, none] []) ?_ (fun k225 hk225 => ?_)
                    · refine jr_iconst K dX23_slip_225 (v := (nI 0)) (by decide) ?_
                      exact jr_weak (hk226 (nI 0)) ⟨rfl, rfl, rfl, trivial⟩
                    refine jr_icmp_ne K (tgt := 225) dX23_slip_211 (by decide) ?_ ?_
                    · exact jr_weak (hk225) ⟨rfl, rfl, rfl, trivial⟩
                    · refine jr_aload K dX23_slip_214 rfl ?_
                      refine jr_iconst K dX23_slip_216 (v := (nI 3)) (by decide) ?_
                      refine jr_iald K dX23_slip_217 (fun v217 => ?_)
                      refine jr_if_le K (tgt := 225) dX23_slip_218 (by decide) ?_ ?_
                      · exact jr_weak (hk225) ⟨rfl, rfl, rfl, trivial⟩
                      · refine jr_iconst K dX23_slip_221 (v := (nI 1)) (by decide) ?_
                        refine jr_goto K (tgt := 226) dX23_slip_222 (by decide) ?_
                        exact jr_weak (hk226 (nI 1)) ⟨rfl, rfl, rfl, trivial⟩
                  · refine jr_aload K dX23_slip_185 rfl ?_
                    refine jr_iload K dX23_slip_187 rfl ?_
                    refine jr_iald K dX23_slip_189 (fun v189 => ?_)
                    refine jr_if_le K (tgt := 198) dX23_slip_190 (by decide) ?_ ?_
                    · refine jr_iconst K dX23_slip_198 (v := (-1)) (by decide) ?_
                      exact hret _ _ _ _ _ dX23_slip_199
                    · refine jr_iload K dX23_slip_193 rfl ?_
                      refine jr_goto K (tgt := 199) dX23_slip_195 (by decide) ?_
                      exact hret _ _ _ _ _ dX23_slip_199
                · refine jr_aload_n K dX23_slip_152 rfl ?_
                  refine jr_getI K gf_X23_18 dX23_slip_153 (fun v153 => ?_)
                  refine jr_iload K dX23_slip_156 rfl ?_
                  refine jr_isub K dX23_slip_158 ?_
                  refine jr_abs K q770 (by decide) (Nat.le_of_ble_eq_true rfl) dX23_slip_159 ?_
                  refine jr_iconst K dX23_slip_162 (v := (nI 1)) (by decide) ?_
                  refine jr_join (fun (k177 : JP) => JR p l e R s m args below meth c Q D S0 14 bc bs k177 177 [none, none, none, none, none, none, none, none, none, none, none, none, none, none] []) ?_ (fun k177 hk177 => ?_)
                  · refine jr_iconst K dX23_slip_177 (v := (-1)) (by decide) ?_
                    exact hret _ _ _ _ _ dX23_slip_178
                  refine jr_icmp_ne K (tgt := 177) dX23_slip_163 (by decide) ?_ ?_
                  · exact jr_weak (hk177) trivial
                  · refine jr_aload K dX23_slip_166 rfl ?_
                    refine jr_iconst K dX23_slip_168 (v := (nI 2)) (by decide) ?_
                    refine jr_iald K dX23_slip_169 (fun v169 => ?_)
                    refine jr_if_le K (tgt := 177) dX23_slip_170 (by decide) ?_ ?_
                    · exact jr_weak (hk177) trivial
                    · refine jr_iconst K dX23_slip_173 (v := (nI 2)) (by decide) ?_
                      refine jr_goto K (tgt := 178) dX23_slip_174 (by decide) ?_
                      exact hret _ _ _ _ _ dX23_slip_178
              · refine jr_iconst K dX23_slip_137 (v := (-1)) (by decide) ?_
                exact hret _ _ _ _ _ dX23_slip_138
            · refine jr_iconst K dX23_slip_126 (v := (nI 0)) (by decide) ?_
              exact hret _ _ _ _ _ dX23_slip_127
          refine jr_join (fun (k112 : JP) => JR p l e R s m args below meth c Q D S0 14 bc bs k112 112 [some (.ref this), none, none, none, none, some (.ref p5), none, some (.int (jrem (jrem p4 (nI 36)) (nI 6))), none, some (.int s0_49), none, none, none, none] [.int ((s0_64 ||| s1_78) ||| s1_94)]) ?_ (fun k112 hk112 => ?_)
          · refine jr_iconst K dX23_slip_112 (v := (nI 0)) (by decide) ?_
            refine jr_goto K (tgt := 118) dX23_slip_113 (by decide) ?_
            exact jr_weak (hk118 (nI 0)) ⟨rfl, rfl, rfl, rfl, trivial⟩
          refine jr_icmp_eq K (tgt := 112) dX23_slip_100 (by decide) ?_ ?_
          · exact jr_weak (hk112) ⟨rfl, rfl, rfl, rfl, trivial⟩
          · refine jr_aload_n K dX23_slip_103 rfl ?_
            refine jr_getI K gf_X23_15 dX23_slip_104 (fun v104 => ?_)
            refine jr_iload K dX23_slip_107 rfl ?_
            refine jr_icmp_ne K (tgt := 116) dX23_slip_109 (by decide) ?_ ?_
            · refine jr_bipush K dX23_slip_116 (v := (nI 32)) (by decide) ?_
              exact jr_weak (hk118 (nI 32)) ⟨rfl, rfl, rfl, rfl, trivial⟩
            · exact jr_weak (hk112) ⟨rfl, rfl, rfl, rfl, trivial⟩
        refine jr_icmp_ne K (tgt := 92) dX23_slip_85 (by decide) ?_ ?_
        · refine jr_bipush K dX23_slip_92 (v := (nI 8)) (by decide) ?_
          exact jr_weak (hk94 (nI 8)) ⟨rfl, rfl, rfl, rfl, rfl, trivial⟩
        · refine jr_iconst K dX23_slip_88 (v := (nI 0)) (by decide) ?_
          refine jr_goto K (tgt := 94) dX23_slip_89 (by decide) ?_
          exact jr_weak (hk94 (nI 0)) ⟨rfl, rfl, rfl, rfl, rfl, trivial⟩
      refine jr_icmp_ne K (tgt := 77) dX23_slip_70 (by decide) ?_ ?_
      · refine jr_iconst K dX23_slip_77 (v := (nI 4)) (by decide) ?_
        exact jr_weak (hk78 (nI 4)) ⟨rfl, rfl, rfl, rfl, rfl, trivial⟩
      · refine jr_iconst K dX23_slip_73 (v := (nI 0)) (by decide) ?_
        refine jr_goto K (tgt := 78) dX23_slip_74 (by decide) ?_
        exact jr_weak (hk78 (nI 0)) ⟨rfl, rfl, rfl, rfl, rfl, trivial⟩
    refine jr_icmp_ne K (tgt := 63) dX23_slip_56 (by decide) ?_ ?_
    · refine jr_iconst K dX23_slip_63 (v := (nI 2)) (by decide) ?_
      exact jr_weak (hk64 (nI 2)) ⟨rfl, rfl, rfl, rfl, rfl, trivial⟩
    · refine jr_iconst K dX23_slip_59 (v := (nI 0)) (by decide) ?_
      refine jr_goto K (tgt := 64) dX23_slip_60 (by decide) ?_
      exact jr_weak (hk64 (nI 0)) ⟨rfl, rfl, rfl, rfl, rfl, trivial⟩
  refine jr_join (fun (k47 : JP) => JR p l e R s m args below meth c Q D S0 14 bc bs k47 47 [some (.ref this), none, some (.int p2), none, none, some (.ref p5), some (.int (jrem (p4 / (nI 36)) (nI 6))), some (.int (jrem (jrem p4 (nI 36)) (nI 6))), some (.int ((jrem p4 (nI 36)) / (nI 6))), none, none, none, none, none] []) ?_ (fun k47 hk47 => ?_)
  · refine jr_iload K dX23_slip_47 rfl ?_
    exact jr_weak (hk49 ((jrem p4 (nI 36)) / (nI 6))) ⟨rfl, rfl, rfl, rfl, rfl, trivial⟩
  refine jr_icmp_ne K (tgt := 47) dX23_slip_32 (by decide) ?_ ?_
  · exact jr_weak (hk47) ⟨rfl, rfl, rfl, rfl, rfl, rfl, trivial⟩
  · refine jr_iload_n K dX23_slip_35 rfl ?_
    refine jr_iconst K dX23_slip_36 (v := (nI 1)) (by decide) ?_
    refine jr_icmp_ne K (tgt := 47) dX23_slip_37 (by decide) ?_ ?_
    · exact jr_weak (hk47) ⟨rfl, rfl, rfl, rfl, rfl, rfl, trivial⟩
    · refine jr_iconst K dX23_slip_40 (v := (nI 5)) (by decide) ?_
      refine jr_iload K dX23_slip_41 rfl ?_
      refine jr_isub K dX23_slip_43 ?_
      refine jr_goto K (tgt := 49) dX23_slip_44 (by decide) ?_
      exact jr_weak (hk49 ((nI 5) - ((jrem p4 (nI 36)) / (nI 6)))) ⟨rfl, rfl, rfl, rfl, rfl, trivial⟩
theorem metX23_slip (hG : jG l D S0 A0) (this : Nat) (p1 : Int32) (p2 : Int32) (p3 : Int32) (p4 : Int32) (p5 : Nat) (Qj : Int32 → JP) : Met l yX23_slip (ws_ yX23_slip cX23_slip 14 (some .int)) (jrm 13 0 0) (va_Pc [.ref this, .int p1, .int p2, .int p3, .int p4, .ref p5] (jB D S0 (JX23_slip this p1 p2 p3 p4 p5 Qj))) (va_Qi Qj (fun σ t => jRep D S0.heap.size σ t.heap) (jA S0)) 0 0 (jA S0) :=
  jr_start hG (by decide) (Nat.le_of_ble_eq_true rfl) rfl fun p e s m below meth c K hr hn => wX23_slip K _ _ this p1 p2 p3 p4 p5 Qj (fun _ _ _ _ _ d => jr_iret K hr rfl d)
theorem wX9_isTwice (K : JK p l R s m args meth c D S0 A0 2 cX9_isTwice "MoveNotes$Book" 14) (bc bs : Nat) (this : Nat) (p1 : Int32) (Qj : Int32 → JP) (hret : jRetZ p l e R s m args below meth c Q D S0 2 cX9_isTwice Qj) : JR p l e R s m args below meth c Q D S0 2 bc bs (JX9_isTwice this p1 Qj) 0 [some (.ref this), some (.int p1)] [] := by
  unfold JX9_isTwice
  refine jr_iload_n K dX9_isTwice_0 rfl ?_
  refine jr_join (fun (k28 : JP) => JR p l e R s m args below meth c Q D S0 2 bc bs k28 28 [none, none] []) ?_ (fun k28 hk28 => ?_)
  · refine jr_iconst K dX9_isTwice_28 (v := (nI 0)) (by decide) ?_
    exact JR.imp (fun _ h => ⟨Or.inl rfl, h⟩) (hret _ _ _ _ _ dX9_isTwice_29)
  refine jr_if_le K (tgt := 28) dX9_isTwice_1 (by decide) ?_ ?_
  · exact jr_weak (hk28) trivial
  · refine jr_aload_n K dX9_isTwice_4 rfl ?_
    refine jr_getA K gf_X9_11 dX9_isTwice_5 (fun v5 => ?_)
    refine jr_iload_n K dX9_isTwice_8 rfl ?_
    refine jr_aald K (by decide) dX9_isTwice_9 (fun v9 => ?_)
    refine jr_aload_n K dX9_isTwice_10 rfl ?_
    refine jr_getA K gf_X9_11 dX9_isTwice_11 (fun v11 => ?_)
    refine jr_iload_n K dX9_isTwice_14 rfl ?_
    refine jr_iconst K dX9_isTwice_15 (v := (nI 1)) (by decide) ?_
    refine jr_isub K dX9_isTwice_16 ?_
    refine jr_aald K (by decide) dX9_isTwice_17 (fun v17 => ?_)
    refine jr_calli0 (jrun_V (As := [.ref v17]) (st := []) (ci := 23) K (metX23_isLike K.hG v9 v17 _) mtX23_isLike mvX23_isLike q775 rfl rfl rfl (Nat.le_of_ble_eq_true rfl) (by decide) ⟨Nat.zero_le _, Nat.zero_le _⟩ dX9_isTwice_18) (fun v18 => ?_)
    refine jr_if_eq K (tgt := 28) dX9_isTwice_21 (by decide) ?_ ?_
    · exact jr_weak (hk28) trivial
    · refine jr_iconst K dX9_isTwice_24 (v := (nI 1)) (by decide) ?_
      refine jr_goto K (tgt := 29) dX9_isTwice_25 (by decide) ?_
      exact JR.imp (fun _ h => ⟨Or.inr rfl, h⟩) (hret _ _ _ _ _ dX9_isTwice_29)
theorem metX9_isTwice (hG : jG l D S0 A0) (this : Nat) (p1 : Int32) (Qj : Int32 → JP) : Met l yX9_isTwice (ws_ yX9_isTwice cX9_isTwice 2 (some .boolean)) (jrm 14 0 0) (va_Pc [.ref this, .int p1] (jB D S0 (JX9_isTwice this p1 Qj))) (va_Qi Qj (fun σ t => jRep D S0.heap.size σ t.heap) (jA S0)) 0 0 (jA S0) :=
  jr_start hG (by decide) (Nat.le_of_ble_eq_true rfl) rfl fun p e s m below meth c K hr hn => wX9_isTwice K _ _ this p1 Qj (fun _ _ _ _ _ d => jr_zret K hr d)
theorem wX8_comes (K : JK p l R s m args meth c D S0 A0 5 cX8_comes "MoveNotes$Board" 12) (bc bs : Nat) (this : Nat) (p1 : Int32) (p2 : Int32) (Qj : JP) (hret : jRetV p l e R s m args below meth c Q D S0 5 cX8_comes Qj) : JR p l e R s m args below meth c Q D S0 5 bc bs (JX8_comes this p1 p2 Qj) 0 [some (.ref this), some (.int p1), some (.int p2), none, none] [] := by
  unfold JX8_comes
  refine jr_iload_n K dX8_comes_0 rfl ?_
  refine jr_bipush K dX8_comes_1 (v := (nI 36)) (by decide) ?_
  refine jr_idiv K dX8_comes_3 (by decide) ?_
  refine jr_istore_n K (L' := [some (.ref this), some (.int p1), some (.int p2), some (.int (p1 / (nI 36))), none]) dX8_comes_4 (by decide) rfl rfl ?_
  refine jr_iload_n K dX8_comes_5 rfl ?_
  refine jr_bipush K dX8_comes_6 (v := (nI 36)) (by decide) ?_
  refine jr_irem K dX8_comes_8 (by decide) ?_
  refine jr_istore K (L' := [some (.ref this), some (.int p1), some (.int p2), some (.int (p1 / (nI 36))), some (.int (jrem p1 (nI 36)))]) dX8_comes_9 (by decide) rfl rfl ?_
  refine jr_aload_n K dX8_comes_11 rfl ?_
  refine jr_getA K gf_X8_9 dX8_comes_12 (fun v12 => ?_)
  refine jr_iload_n K dX8_comes_15 rfl ?_
  refine jr_aload_n K dX8_comes_16 rfl ?_
  refine jr_getA K gf_X8_9 dX8_comes_17 (fun v17 => ?_)
  refine jr_iload K dX8_comes_20 rfl ?_
  refine jr_iald K dX8_comes_22 (fun v22 => ?_)
  refine jr_iast K dX8_comes_23 ?_
  refine jr_aload_n K dX8_comes_24 rfl ?_
  refine jr_getA K gf_X8_15 dX8_comes_25 (fun v25 => ?_)
  refine jr_iload_n K dX8_comes_28 rfl ?_
  refine jr_aload_n K dX8_comes_29 rfl ?_
  refine jr_getA K gf_X8_15 dX8_comes_30 (fun v30 => ?_)
  refine jr_iload K dX8_comes_33 rfl ?_
  refine jr_iald K dX8_comes_35 (fun v35 => ?_)
  refine jr_iast K dX8_comes_36 ?_
  refine jr_aload_n K dX8_comes_37 rfl ?_
  refine jr_getA K gf_X8_9 dX8_comes_38 (fun v38 => ?_)
  refine jr_iload K dX8_comes_41 rfl ?_
  refine jr_iload_n K dX8_comes_43 rfl ?_
  refine jr_iast K dX8_comes_44 ?_
  refine jr_aload_n K dX8_comes_45 rfl ?_
  refine jr_getA K gf_X8_15 dX8_comes_46 (fun v46 => ?_)
  refine jr_iload K dX8_comes_49 rfl ?_
  refine jr_iconst K dX8_comes_51 (v := (nI 1)) (by decide) ?_
  refine jr_aload_n K dX8_comes_52 rfl ?_
  refine jr_getA K gf_X8_15 dX8_comes_53 (fun v53 => ?_)
  refine jr_iload_n K dX8_comes_56 rfl ?_
  refine jr_iald K dX8_comes_57 (fun v57 => ?_)
  refine jr_isub K dX8_comes_58 ?_
  refine jr_iast K dX8_comes_59 ?_
  exact hret _ _ _ _ dX8_comes_60
theorem metX8_comes (hG : jG l D S0 A0) (this : Nat) (p1 : Int32) (p2 : Int32) (Qj : JP) : Met l yX8_comes (ws_ yX8_comes cX8_comes 5 none) (jrm 12 0 0) (va_Pc [.ref this, .int p1, .int p2] (jB D S0 (JX8_comes this p1 p2 Qj))) (va_Qv Qj (fun σ t => jRep D S0.heap.size σ t.heap) (jA S0)) 0 0 (jA S0) :=
  jr_start hG (by decide) (Nat.le_of_ble_eq_true rfl) rfl fun p e s m below meth c K hr hn => wX8_comes K _ _ this p1 p2 Qj (fun _ _ _ _ d => jr_vret K hr d)
theorem wX9_be (K : JK p l R s m args meth c D S0 A0 2 cX9_be "MoveNotes$Book" 12) (bc bs : Nat) (this : Nat) (p1 : Nat) (Qj : JP) (hret : jRetV p l e R s m args below meth c Q D S0 2 cX9_be Qj) : JR p l e R s m args below meth c Q D S0 2 bc bs (JX9_be this p1 Qj) 0 [some (.ref this), some (.ref p1)] [] := by
  unfold JX9_be
  refine jr_aload_n K dX9_be_0 rfl ?_
  refine jr_getA K gf_X9_11 dX9_be_1 (fun v1 => ?_)
  refine jr_iconst K dX9_be_4 (v := (nI 0)) (by decide) ?_
  refine jr_aload_n K dX9_be_5 rfl ?_
  refine jr_getA K gf_X9_11 dX9_be_6 (fun v6 => ?_)
  refine jr_iconst K dX9_be_9 (v := (nI 0)) (by decide) ?_
  refine jr_bipush K dX9_be_10 (v := (nI 24)) (by decide) ?_
  refine jr_cpyA K (by decide) rfl q818 (by decide) (Nat.le_of_ble_eq_true rfl) dX9_be_12 ?_
  refine jr_aload_n K dX9_be_15 rfl ?_
  refine jr_aload_n K dX9_be_16 rfl ?_
  refine jr_getI K gf_X9_23 dX9_be_17 (fun v17 => ?_)
  refine jr_put K pf_X9_23 dX9_be_20 rfl rfl ?_
  refine jr_aload_n K dX9_be_23 rfl ?_
  refine jr_aload_n K dX9_be_24 rfl ?_
  refine jr_getI K gf_X9_27 dX9_be_25 (fun v25 => ?_)
  refine jr_put K pf_X9_27 dX9_be_28 rfl rfl ?_
  exact hret _ _ _ _ dX9_be_31
theorem metX9_be (hG : jG l D S0 A0) (this : Nat) (p1 : Nat) (Qj : JP) : Met l yX9_be (ws_ yX9_be cX9_be 2 none) (jrm 12 0 0) (va_Pc [.ref this, .ref p1] (jB D S0 (JX9_be this p1 Qj))) (va_Qv Qj (fun σ t => jRep D S0.heap.size σ t.heap) (jA S0)) 0 0 (jA S0) :=
  jr_start hG (by decide) (Nat.le_of_ble_eq_true rfl) rfl fun p e s m below meth c K hr hn => wX9_be K _ _ this p1 Qj (fun _ _ _ _ d => jr_vret K hr d)
theorem wX7_be_27 (K : JK p l R s m args meth c D S0 A0 3 cX7_be "MoveNotes$State" 13) (bc bs : Nat) (this : Nat) (p1 : Nat) (k53 : JP) (hk53 : JR p l e R s m args below meth c Q D S0 3 bc bs k53 53 [some (.ref this), some (.ref p1), none] []) : ∀ (n : Nat) (x2_27 : Int32), JR p l e R s m args below meth c Q D S0 3 bc bs (jit (FX7_be_27 this p1 k53) (fun _ => jbot) n x2_27) 27 [some (.ref this), some (.ref p1), some (.int x2_27)] [] := by
  intro n
  induction n with
  | zero =>
    intro x2_27
    exact JR.bot
  | succ n ih27 =>
    intro x2_27
    show JR p l e R s m args below meth c Q D S0 3 bc bs (FX7_be_27 this p1 k53 (jit (FX7_be_27 this p1 k53) (fun _ => jbot) n) x2_27) 27 [some (.ref this), some (.ref p1), some (.int x2_27)] []
    generalize jit (FX7_be_27 this p1 k53) (fun _ => jbot) n = rec27 at ih27 ⊢
    unfold FX7_be_27
    refine jr_iload_n K dX7_be_27 rfl ?_
    refine jr_iconst K dX7_be_28 (v := (nI 3)) (by decide) ?_
    refine jr_icmp_ge K (tgt := 53) dX7_be_29 (by decide) ?_ ?_
    · exact jr_weak (hk53) ⟨rfl, rfl, trivial⟩
    · refine jr_aload_n K dX7_be_32 rfl ?_
      refine jr_getA K gf_X7_26 dX7_be_33 (fun v33 => ?_)
      refine jr_iload_n K dX7_be_36 rfl ?_
      refine jr_aald K (by decide) dX7_be_37 (fun v37 => ?_)
      refine jr_aload_n K dX7_be_38 rfl ?_
      refine jr_getA K gf_X7_26 dX7_be_39 (fun v39 => ?_)
      refine jr_iload_n K dX7_be_42 rfl ?_
      refine jr_aald K (by decide) dX7_be_43 (fun v43 => ?_)
      refine jr_callv0 (jrun_V (As := [.ref v43]) (st := []) (ci := 9) K (metX9_be K.hG v37 v43 _) mtX9_be mvX9_be q814 rfl rfl rfl (Nat.le_of_ble_eq_true rfl) (by decide) ⟨Nat.zero_le _, Nat.zero_le _⟩ dX7_be_44) ?_
      refine jr_iinc K (v := (x2_27 + (nI 1))) (L' := [some (.ref this), some (.ref p1), some (.int (x2_27 + (nI 1)))]) dX7_be_47 rfl rfl (by decide) rfl rfl ?_
      refine jr_goto K (tgt := 27) dX7_be_50 (by decide) ?_
      exact jr_weak (ih27 (x2_27 + (nI 1))) ⟨rfl, rfl, rfl, trivial⟩
theorem wX7_be (K : JK p l R s m args meth c D S0 A0 3 cX7_be "MoveNotes$State" 13) (bc bs : Nat) (this : Nat) (p1 : Nat) (Qj : JP) (hret : jRetV p l e R s m args below meth c Q D S0 3 cX7_be Qj) : JR p l e R s m args below meth c Q D S0 3 bc bs (JX7_be this p1 Qj) 0 [some (.ref this), some (.ref p1), none] [] := by
  unfold JX7_be
  refine jr_aload_n K dX7_be_0 rfl ?_
  refine jr_getA K gf_X7_11 dX7_be_1 (fun v1 => ?_)
  refine jr_iconst K dX7_be_4 (v := (nI 0)) (by decide) ?_
  refine jr_aload_n K dX7_be_5 rfl ?_
  refine jr_getA K gf_X7_11 dX7_be_6 (fun v6 => ?_)
  refine jr_iconst K dX7_be_9 (v := (nI 0)) (by decide) ?_
  refine jr_iconst K dX7_be_10 (v := (nI 5)) (by decide) ?_
  refine jr_cpyA K (by decide) rfl q812 (by decide) (Nat.le_of_ble_eq_true rfl) dX7_be_11 ?_
  refine jr_aload_n K dX7_be_14 rfl ?_
  refine jr_getA K gf_X7_20 dX7_be_15 (fun v15 => ?_)
  refine jr_aload_n K dX7_be_18 rfl ?_
  refine jr_getA K gf_X7_20 dX7_be_19 (fun v19 => ?_)
  refine jr_callv0 (jrun_V (As := [.ref v19]) (st := []) (ci := 8) K (metX8_be K.hG v15 v19 _) mtX8_be mvX8_be q813 rfl rfl rfl (Nat.le_of_ble_eq_true rfl) (by decide) ⟨Nat.zero_le _, Nat.zero_le _⟩ dX7_be_22) ?_
  refine jr_iconst K dX7_be_25 (v := (nI 0)) (by decide) ?_
  refine jr_istore_n K (L' := [some (.ref this), some (.ref p1), some (.int (nI 0))]) dX7_be_26 (by decide) rfl rfl ?_
  refine jr_ex (fun n27 => ?_)
  refine jr_weak (wX7_be_27 K bc bs this p1 _ ?_ n27 (nI 0)) ⟨rfl, rfl, rfl, trivial⟩
  · refine jr_aload_n K dX7_be_53 rfl ?_
    refine jr_getA K gf_X7_32 dX7_be_54 (fun v54 => ?_)
    refine jr_iconst K dX7_be_57 (v := (nI 0)) (by decide) ?_
    refine jr_aload_n K dX7_be_58 rfl ?_
    refine jr_getA K gf_X7_32 dX7_be_59 (fun v59 => ?_)
    refine jr_iconst K dX7_be_62 (v := (nI 0)) (by decide) ?_
    refine jr_bipush K dX7_be_63 (v := (nI 10)) (by decide) ?_
    refine jr_cpyA K (by decide) rfl q812 (by decide) (Nat.le_of_ble_eq_true rfl) dX7_be_65 ?_
    refine jr_aload_n K dX7_be_68 rfl ?_
    refine jr_getA K gf_X7_36 dX7_be_69 (fun v69 => ?_)
    refine jr_iconst K dX7_be_72 (v := (nI 0)) (by decide) ?_
    refine jr_aload_n K dX7_be_73 rfl ?_
    refine jr_getA K gf_X7_36 dX7_be_74 (fun v74 => ?_)
    refine jr_iconst K dX7_be_77 (v := (nI 0)) (by decide) ?_
    refine jr_bipush K dX7_be_78 (v := (nI 8)) (by decide) ?_
    refine jr_cpyI K q812 (by decide) (Nat.le_of_ble_eq_true rfl) dX7_be_80 ?_
    refine jr_aload_n K dX7_be_83 rfl ?_
    refine jr_aload_n K dX7_be_84 rfl ?_
    refine jr_getO K gf_X7_58 dX7_be_85 (fun v85 => ?_)
    refine jr_put K pf_X7_58 dX7_be_88 (jnar_rf _ _) (jfits_rf _ _) ?_
    refine jr_aload_n K dX7_be_91 rfl ?_
    refine jr_aload_n K dX7_be_92 rfl ?_
    refine jr_getI K gf_X7_62 dX7_be_93 (fun v93 => ?_)
    refine jr_put K pf_X7_62 dX7_be_96 rfl rfl ?_
    refine jr_aload_n K dX7_be_99 rfl ?_
    refine jr_aload_n K dX7_be_100 rfl ?_
    refine jr_getI K gf_X7_65 dX7_be_101 (fun v101 => ?_)
    refine jr_put K pf_X7_65 dX7_be_104 rfl rfl ?_
    refine jr_aload_n K dX7_be_107 rfl ?_
    refine jr_aload_n K dX7_be_108 rfl ?_
    refine jr_getI K gf_X7_68 dX7_be_109 (fun v109 => ?_)
    refine jr_put K pf_X7_68 dX7_be_112 rfl rfl ?_
    refine jr_aload_n K dX7_be_115 rfl ?_
    refine jr_aload_n K dX7_be_116 rfl ?_
    refine jr_getI K gf_X7_40 dX7_be_117 (fun v117 => ?_)
    refine jr_put K pf_X7_40 dX7_be_120 rfl rfl ?_
    exact hret _ _ _ _ dX7_be_123
theorem metX7_be (hG : jG l D S0 A0) (this : Nat) (p1 : Nat) (Qj : JP) : Met l yX7_be (ws_ yX7_be cX7_be 3 none) (jrm 13 0 0) (va_Pc [.ref this, .ref p1] (jB D S0 (JX7_be this p1 Qj))) (va_Qv Qj (fun σ t => jRep D S0.heap.size σ t.heap) (jA S0)) 0 0 (jA S0) :=
  jr_start hG (by decide) (Nat.le_of_ble_eq_true rfl) rfl fun p e s m below meth c K hr hn => wX7_be K _ _ this p1 Qj (fun _ _ _ _ d => jr_vret K hr d)
end JW
