set_option maxRecDepth 100000
theorem gf_X10_116 : jGet "MoveNotes$Search" 116 10 12 := jg_own in_X10 rfl (by decide) q426 rfl
theorem gf_X10_119 : jGet "MoveNotes$Search" 119 7 8 := jg_nest in_X7 rfl (by decide) q373 rfl
theorem gf_X10_12 : jGet "MoveNotes$Search" 12 10 1 := jg_own in_X10 rfl (by decide) q412 rfl
theorem gf_X10_122 : jGet "MoveNotes$Search" 122 10 27 := jg_own in_X10 rfl (by decide) q449 rfl
theorem gf_X10_126 : jGet "MoveNotes$Search" 126 7 3 := jg_nest in_X7 rfl (by decide) q359 rfl
theorem gf_X10_130 : jGet "MoveNotes$Search" 130 24 0 := jg_nest in_X24 rfl (by decide) q1350 rfl
theorem gf_X10_138 : jGet "MoveNotes$Search" 138 7 9 := jg_nest in_X7 rfl (by decide) q376 rfl
theorem gf_X10_141 : jGet "MoveNotes$Search" 141 7 7 := jg_nest in_X7 rfl (by decide) q370 rfl
theorem gf_X10_147 : jGet "MoveNotes$Search" 147 7 2 := jg_nest in_X7 rfl (by decide) q356 rfl
theorem gf_X10_150 : jGet "MoveNotes$Search" 150 10 22 := jg_own in_X10 rfl (by decide) q442 rfl
theorem gf_X10_153 : jGet "MoveNotes$Search" 153 10 13 := jg_own in_X10 rfl (by decide) q427 rfl
theorem gf_X10_156 : jGet "MoveNotes$Search" 156 10 26 := jg_own in_X10 rfl (by decide) q448 rfl
theorem gf_X10_162 : jGet "MoveNotes$Search" 162 10 20 := jg_own in_X10 rfl (by decide) q440 rfl
theorem gf_X10_18 : jGet "MoveNotes$Search" 18 10 2 := jg_own in_X10 rfl (by decide) q413 rfl
theorem gf_X10_193 : jGet "MoveNotes$Search" 193 10 28 := jg_own in_X10 rfl (by decide) q450 rfl
theorem gf_X10_196 : jGet "MoveNotes$Search" 196 10 24 := jg_own in_X10 rfl (by decide) q445 rfl
theorem gf_X10_200 : jGet "MoveNotes$Search" 200 10 25 := jg_own in_X10 rfl (by decide) q447 rfl
theorem gf_X10_203 : jGet "MoveNotes$Search" 203 10 23 := jg_own in_X10 rfl (by decide) q443 rfl
theorem gf_X10_206 : jGet "MoveNotes$Search" 206 10 21 := jg_own in_X10 rfl (by decide) q441 rfl
theorem gf_X10_209 : jGet "MoveNotes$Search" 209 10 15 := jg_own in_X10 rfl (by decide) q430 rfl
theorem gf_X10_222 : jGet "MoveNotes$Search" 222 10 29 := jg_own in_X10 rfl (by decide) q451 rfl
theorem gf_X10_228 : jGet "MoveNotes$Search" 228 10 19 := jg_own in_X10 rfl (by decide) q438 rfl
theorem gf_X10_234 : jGet "MoveNotes$Search" 234 7 1 := jg_nest in_X7 rfl (by decide) q353 rfl
theorem gf_X10_24 : jGet "MoveNotes$Search" 24 10 3 := jg_own in_X10 rfl (by decide) q414 rfl
theorem gf_X10_241 : jGet "MoveNotes$Search" 241 7 4 := jg_nest in_X7 rfl (by decide) q362 rfl
theorem gf_X10_249 : jGet "MoveNotes$Search" 249 10 14 := jg_own in_X10 rfl (by decide) q429 rfl
theorem gf_X10_252 : jGet "MoveNotes$Search" 252 7 5 := jg_nest in_X7 rfl (by decide) q365 rfl
theorem gf_X10_256 : jGet "MoveNotes$Search" 256 12 0 := jg_nest in_X12 rfl (by decide) q1077 rfl
theorem gf_X10_29 : jGet "MoveNotes$Search" 29 10 4 := jg_own in_X10 rfl (by decide) q415 rfl
theorem gf_X10_32 : jGet "MoveNotes$Search" 32 10 5 := jg_own in_X10 rfl (by decide) q416 rfl
theorem gf_X10_36 : jGet "MoveNotes$Search" 36 10 6 := jg_own in_X10 rfl (by decide) q417 rfl
theorem gf_X10_39 : jGet "MoveNotes$Search" 39 10 7 := jg_own in_X10 rfl (by decide) q419 rfl
theorem gf_X10_42 : jGet "MoveNotes$Search" 42 10 8 := jg_own in_X10 rfl (by decide) q421 rfl
theorem gf_X10_45 : jGet "MoveNotes$Search" 45 10 9 := jg_own in_X10 rfl (by decide) q423 rfl
theorem gf_X10_48 : jGet "MoveNotes$Search" 48 10 10 := jg_own in_X10 rfl (by decide) q424 rfl
theorem gf_X10_51 : jGet "MoveNotes$Search" 51 10 11 := jg_own in_X10 rfl (by decide) q425 rfl
theorem gf_X10_54 : jGet "MoveNotes$Search" 54 10 0 := jg_own in_X10 rfl (by decide) q411 rfl
theorem gf_X10_58 : jGet "MoveNotes$Search" 58 8 0 := jg_nest in_X8 rfl (by decide) q304 rfl
theorem gf_X10_61 : jGet "MoveNotes$Search" 61 8 1 := jg_nest in_X8 rfl (by decide) q310 rfl
theorem gf_X10_64 : jGet "MoveNotes$Search" 64 7 0 := jg_nest in_X7 rfl (by decide) q350 rfl
theorem gf_X10_70 : jGet "MoveNotes$Search" 70 12 1 := jg_nest in_X12 rfl (by decide) q1080 rfl
theorem gf_X10_82 : jGet "MoveNotes$Search" 82 9 0 := jg_nest in_X9 rfl (by decide) q334 rfl
theorem gf_X10_88 : jGet "MoveNotes$Search" 88 9 1 := jg_nest in_X9 rfl (by decide) q337 rfl
theorem gf_X10_99 : jGet "MoveNotes$Search" 99 9 2 := jg_nest in_X9 rfl (by decide) q340 rfl
theorem gf_X16_15 : jGet "MoveNotes$PlayLine" 15 16 1 := jg_own in_X16 rfl (by decide) q1061 rfl
theorem gf_X16_18 : jGet "MoveNotes$PlayLine" 18 16 2 := jg_own in_X16 rfl (by decide) q1062 rfl
theorem gf_X16_9 : jGet "MoveNotes$PlayLine" 9 16 0 := jg_own in_X16 rfl (by decide) q1060 rfl
theorem gf_X17_13 : jGet "MoveNotes$Chain" 13 17 1 := jg_own in_X17 rfl (by decide) q1044 rfl
theorem gf_X17_23 : jGet "MoveNotes$Chain" 23 17 2 := jg_own in_X17 rfl (by decide) q1045 rfl
theorem gf_X17_7 : jGet "MoveNotes$Chain" 7 17 0 := jg_own in_X17 rfl (by decide) q1043 rfl
theorem gf_X20_13 : jGet "MoveNotes$Less" 13 20 1 := jg_own in_X20 rfl (by decide) q1023 rfl
theorem gf_X20_7 : jGet "MoveNotes$Less" 7 20 0 := jg_own in_X20 rfl (by decide) q1022 rfl
theorem gf_X21_7 : jGet "MoveNotes$Not" 7 21 0 := jg_own in_X21 rfl (by decide) q1035 rfl
theorem gf_X22_9 : jGet "MoveNotes$Measure" 9 22 0 := jg_own in_X22 rfl (by decide) q1147 rfl
theorem gf_X2_163 : jGet "MoveNotes$Reader" 163 17 2 := jg_nest in_X17 rfl (by decide) q1046 rfl
theorem gf_X2_199 : jGet "MoveNotes$Reader" 199 19 1 := jg_nest in_X19 rfl (by decide) q1006 rfl
theorem gf_X2_201 : jGet "MoveNotes$Reader" 201 19 0 := jg_nest in_X19 rfl (by decide) q1004 rfl
theorem gf_X2_25 : jGet "MoveNotes$Reader" 25 2 1 := jg_own in_X2 rfl (by decide) q255 rfl
theorem gf_X2_31 : jGet "MoveNotes$Reader" 31 2 2 := jg_own in_X2 rfl (by decide) q256 rfl
theorem gf_X2_37 : jGet "MoveNotes$Reader" 37 2 3 := jg_own in_X2 rfl (by decide) q257 rfl
theorem gf_X2_44 : jGet "MoveNotes$Reader" 44 2 4 := jg_own in_X2 rfl (by decide) q258 rfl
theorem gf_X2_51 : jGet "MoveNotes$Reader" 51 2 5 := jg_own in_X2 rfl (by decide) q259 rfl
theorem gf_X2_58 : jGet "MoveNotes$Reader" 58 2 6 := jg_own in_X2 rfl (by decide) q260 rfl
theorem gf_X2_66 : jGet "MoveNotes$Reader" 66 2 9 := jg_own in_X2 rfl (by decide) q263 rfl
theorem gf_X2_69 : jGet "MoveNotes$Reader" 69 2 8 := jg_own in_X2 rfl (by decide) q262 rfl
theorem gf_X2_87 : jGet "MoveNotes$Reader" 87 2 10 := jg_own in_X2 rfl (by decide) q264 rfl
theorem gf_X2_9 : jGet "MoveNotes$Reader" 9 2 0 := jg_own in_X2 rfl (by decide) q253 rfl
theorem pf_X10_116 {mn : String} : jPut "MoveNotes$Search" mn 116 10 12 .int := jp_own in_X10 rfl (by decide) tyX10_ok nmX10 q426 rfl rfl rfl
theorem pf_X10_12 {mn : String} (h : mn = "<init>") : jPut "MoveNotes$Search" mn 12 10 1 (.object "MoveNotes$Board") := jp_fin in_X10 rfl (by decide) tyX10_ok nmX10 q412 rfl rfl rfl h rfl
theorem pf_X10_122 {mn : String} : jPut "MoveNotes$Search" mn 122 10 27 .boolean := jp_own in_X10 rfl (by decide) tyX10_ok nmX10 q449 rfl rfl rfl
theorem pf_X10_150 {mn : String} : jPut "MoveNotes$Search" mn 150 10 22 .int := jp_own in_X10 rfl (by decide) tyX10_ok nmX10 q442 rfl rfl rfl
theorem pf_X10_153 {mn : String} : jPut "MoveNotes$Search" mn 153 10 13 .int := jp_own in_X10 rfl (by decide) tyX10_ok nmX10 q427 rfl rfl rfl
theorem pf_X10_156 {mn : String} : jPut "MoveNotes$Search" mn 156 10 26 .boolean := jp_own in_X10 rfl (by decide) tyX10_ok nmX10 q448 rfl rfl rfl
theorem pf_X10_162 {mn : String} : jPut "MoveNotes$Search" mn 162 10 20 .int := jp_own in_X10 rfl (by decide) tyX10_ok nmX10 q440 rfl rfl rfl
theorem pf_X10_18 {mn : String} (h : mn = "<init>") : jPut "MoveNotes$Search" mn 18 10 2 (.array .boolean) := jp_fin in_X10 rfl (by decide) tyX10_ok nmX10 q413 rfl rfl rfl h rfl
theorem pf_X10_193 {mn : String} : jPut "MoveNotes$Search" mn 193 10 28 .boolean := jp_own in_X10 rfl (by decide) tyX10_ok nmX10 q450 rfl rfl rfl
theorem pf_X10_196 {mn : String} : jPut "MoveNotes$Search" mn 196 10 24 .long := jp_own in_X10 rfl (by decide) tyX10_ok nmX10 q445 rfl rfl rfl
theorem pf_X10_200 {mn : String} : jPut "MoveNotes$Search" mn 200 10 25 .long := jp_own in_X10 rfl (by decide) tyX10_ok nmX10 q447 rfl rfl rfl
theorem pf_X10_203 {mn : String} : jPut "MoveNotes$Search" mn 203 10 23 .long := jp_own in_X10 rfl (by decide) tyX10_ok nmX10 q443 rfl rfl rfl
theorem pf_X10_206 {mn : String} : jPut "MoveNotes$Search" mn 206 10 21 .int := jp_own in_X10 rfl (by decide) tyX10_ok nmX10 q441 rfl rfl rfl
theorem pf_X10_209 {mn : String} : jPut "MoveNotes$Search" mn 209 10 15 .int := jp_own in_X10 rfl (by decide) tyX10_ok nmX10 q430 rfl rfl rfl
theorem pf_X10_216 {mn : String} : jPut "MoveNotes$Search" mn 216 10 16 .int := jp_own in_X10 rfl (by decide) tyX10_ok nmX10 q432 rfl rfl rfl
theorem pf_X10_219 {mn : String} : jPut "MoveNotes$Search" mn 219 10 17 .int := jp_own in_X10 rfl (by decide) tyX10_ok nmX10 q434 rfl rfl rfl
theorem pf_X10_228 {mn : String} : jPut "MoveNotes$Search" mn 228 10 19 .int := jp_own in_X10 rfl (by decide) tyX10_ok nmX10 q438 rfl rfl rfl
theorem pf_X10_231 {mn : String} : jPut "MoveNotes$Search" mn 231 10 18 .int := jp_own in_X10 rfl (by decide) tyX10_ok nmX10 q436 rfl rfl rfl
theorem pf_X10_24 {mn : String} (h : mn = "<init>") : jPut "MoveNotes$Search" mn 24 10 3 (.array (.array .int)) := jp_fin in_X10 rfl (by decide) tyX10_ok nmX10 q414 rfl rfl rfl h rfl
theorem pf_X10_249 {mn : String} : jPut "MoveNotes$Search" mn 249 10 14 .int := jp_own in_X10 rfl (by decide) tyX10_ok nmX10 q429 rfl rfl rfl
theorem pf_X10_29 {mn : String} (h : mn = "<init>") : jPut "MoveNotes$Search" mn 29 10 4 (.array (.array (.array .int))) := jp_fin in_X10 rfl (by decide) tyX10_ok nmX10 q415 rfl rfl rfl h rfl
theorem pf_X10_32 {mn : String} (h : mn = "<init>") : jPut "MoveNotes$Search" mn 32 10 5 (.array .int) := jp_fin in_X10 rfl (by decide) tyX10_ok nmX10 q416 rfl rfl rfl h rfl
theorem pf_X10_36 {mn : String} (h : mn = "<init>") : jPut "MoveNotes$Search" mn 36 10 6 (.array .int) := jp_fin in_X10 rfl (by decide) tyX10_ok nmX10 q417 rfl rfl rfl h rfl
theorem pf_X10_39 {mn : String} (h : mn = "<init>") : jPut "MoveNotes$Search" mn 39 10 7 (.array .int) := jp_fin in_X10 rfl (by decide) tyX10_ok nmX10 q419 rfl rfl rfl h rfl
theorem pf_X10_42 {mn : String} (h : mn = "<init>") : jPut "MoveNotes$Search" mn 42 10 8 (.array .int) := jp_fin in_X10 rfl (by decide) tyX10_ok nmX10 q421 rfl rfl rfl h rfl
theorem pf_X10_45 {mn : String} (h : mn = "<init>") : jPut "MoveNotes$Search" mn 45 10 9 (.array .int) := jp_fin in_X10 rfl (by decide) tyX10_ok nmX10 q423 rfl rfl rfl h rfl
theorem pf_X10_48 {mn : String} (h : mn = "<init>") : jPut "MoveNotes$Search" mn 48 10 10 (.array .int) := jp_fin in_X10 rfl (by decide) tyX10_ok nmX10 q424 rfl rfl rfl h rfl
theorem pf_X10_51 {mn : String} (h : mn = "<init>") : jPut "MoveNotes$Search" mn 51 10 11 (.object "MoveNotes$Board") := jp_fin in_X10 rfl (by decide) tyX10_ok nmX10 q425 rfl rfl rfl h rfl
theorem pf_X10_54 {mn : String} (h : mn = "<init>") : jPut "MoveNotes$Search" mn 54 10 0 (.object "MoveNotes$State") := jp_fin in_X10 rfl (by decide) tyX10_ok nmX10 q411 rfl rfl rfl h rfl
theorem pf_X16_15 {mn : String} (h : mn = "<init>") : jPut "MoveNotes$PlayLine" mn 15 16 1 .int := jp_fin in_X16 rfl (by decide) tyX16_ok nmX16 q1061 rfl rfl rfl h rfl
theorem pf_X16_18 {mn : String} (h : mn = "<init>") : jPut "MoveNotes$PlayLine" mn 18 16 2 (.object "MoveNotes$Cond") := jp_fin in_X16 rfl (by decide) tyX16_ok nmX16 q1062 rfl rfl rfl h rfl
theorem pf_X16_9 {mn : String} (h : mn = "<init>") : jPut "MoveNotes$PlayLine" mn 9 16 0 .int := jp_fin in_X16 rfl (by decide) tyX16_ok nmX16 q1060 rfl rfl rfl h rfl
theorem pf_X17_13 {mn : String} (h : mn = "<init>") : jPut "MoveNotes$Chain" mn 13 17 1 .boolean := jp_fin in_X17 rfl (by decide) tyX17_ok nmX17 q1044 rfl rfl rfl h rfl
theorem pf_X17_7 {mn : String} (h : mn = "<init>") : jPut "MoveNotes$Chain" mn 7 17 0 (.object "MoveNotes$Cond") := jp_fin in_X17 rfl (by decide) tyX17_ok nmX17 q1043 rfl rfl rfl h rfl
theorem pf_X20_13 {mn : String} (h : mn = "<init>") : jPut "MoveNotes$Less" mn 13 20 1 (.object "MoveNotes$Sum") := jp_fin in_X20 rfl (by decide) tyX20_ok nmX20 q1023 rfl rfl rfl h rfl
theorem pf_X20_7 {mn : String} (h : mn = "<init>") : jPut "MoveNotes$Less" mn 7 20 0 (.object "MoveNotes$Sum") := jp_fin in_X20 rfl (by decide) tyX20_ok nmX20 q1022 rfl rfl rfl h rfl
theorem pf_X21_7 {mn : String} (h : mn = "<init>") : jPut "MoveNotes$Not" mn 7 21 0 (.object "MoveNotes$Cond") := jp_fin in_X21 rfl (by decide) tyX21_ok nmX21 q1035 rfl rfl rfl h rfl
theorem pf_X22_9 {mn : String} (h : mn = "<init>") : jPut "MoveNotes$Measure" mn 9 22 0 (.array (.object "MoveNotes$PlayLine")) := jp_fin in_X22 rfl (by decide) tyX22_ok nmX22 q1147 rfl rfl rfl h rfl
theorem pf_X2_163 {mn : String} : jPut "MoveNotes$Reader" mn 163 17 2 (.object "MoveNotes$Chain") := jp_nest in_X17 rfl (by decide) tyX17_ok nmX17 q1046 rfl rfl rfl
theorem pf_X2_199 {mn : String} : jPut "MoveNotes$Reader" mn 199 19 1 .int := jp_nest in_X19 rfl (by decide) tyX19_ok nmX19 q1006 rfl rfl rfl
theorem pf_X2_25 {mn : String} (h : mn = "<init>") : jPut "MoveNotes$Reader" mn 25 2 1 (.array (.object "java/lang/String")) := jp_fin in_X2 rfl (by decide) tyX2_ok nmX2 q255 rfl rfl rfl h rfl
theorem pf_X2_31 {mn : String} (h : mn = "<init>") : jPut "MoveNotes$Reader" mn 31 2 2 (.array (.object "MoveNotes$Going")) := jp_fin in_X2 rfl (by decide) tyX2_ok nmX2 q256 rfl rfl rfl h rfl
theorem pf_X2_37 {mn : String} (h : mn = "<init>") : jPut "MoveNotes$Reader" mn 37 2 3 (.array (.object "MoveNotes$PlayLine")) := jp_fin in_X2 rfl (by decide) tyX2_ok nmX2 q257 rfl rfl rfl h rfl
theorem pf_X2_44 {mn : String} (h : mn = "<init>") : jPut "MoveNotes$Reader" mn 44 2 4 (.object "MoveNotes$Leap") := jp_fin in_X2 rfl (by decide) tyX2_ok nmX2 q258 rfl rfl rfl h rfl
theorem pf_X2_51 {mn : String} (h : mn = "<init>") : jPut "MoveNotes$Reader" mn 51 2 5 (.object "MoveNotes$Bite") := jp_fin in_X2 rfl (by decide) tyX2_ok nmX2 q259 rfl rfl rfl h rfl
theorem pf_X2_58 {mn : String} (h : mn = "<init>") : jPut "MoveNotes$Reader" mn 58 2 6 (.object "MoveNotes$Wrong") := jp_fin in_X2 rfl (by decide) tyX2_ok nmX2 q260 rfl rfl rfl h rfl
theorem pf_X2_62 {mn : String} : jPut "MoveNotes$Reader" mn 62 6 6 .int := jp_nest in_X6 rfl (by decide) tyX6_ok nmX6 q236 rfl rfl rfl
theorem pf_X2_66 {mn : String} : jPut "MoveNotes$Reader" mn 66 2 9 .int := jp_own in_X2 rfl (by decide) tyX2_ok nmX2 q263 rfl rfl rfl
theorem pf_X2_69 {mn : String} : jPut "MoveNotes$Reader" mn 69 2 8 .int := jp_own in_X2 rfl (by decide) tyX2_ok nmX2 q262 rfl rfl rfl
theorem pf_X2_87 {mn : String} : jPut "MoveNotes$Reader" mn 87 2 10 .int := jp_own in_X2 rfl (by decide) tyX2_ok nmX2 q264 rfl rfl rfl
theorem pf_X2_9 {mn : String} (h : mn = "<init>") : jPut "MoveNotes$Reader" mn 9 2 0 (.array .byte) := jp_fin in_X2 rfl (by decide) tyX2_ok nmX2 q253 rfl rfl rfl h rfl
theorem mtX2_init : jMt yX2_init cX2_init 1 none 0 := ⟨by decide +kernel, q100, q150, by decide⟩
theorem mtX10_init : jMt yX10_init cX10_init 2 none 1 := ⟨by decide +kernel, q111, q403, by decide⟩
theorem mtX2_sign : jMt yX2_sign cX2_sign 1 (some .int) 0 := ⟨by decide +kernel, q100, q855, by decide⟩
theorem mvX2_sign : jMv yX2_sign := ⟨q854, qs18⟩
theorem mtX2_fail : jMt yX2_fail cX2_fail 2 none 1 := ⟨by decide +kernel, q100, q859, by decide⟩
theorem mvX2_fail : jMv yX2_fail := ⟨q858, qs19⟩
theorem mtX2_takes : jMt yX2_takes cX2_takes 6 (some .boolean) 1 := ⟨by decide +kernel, q100, q868, by decide⟩
theorem mvX2_takes : jMv yX2_takes := ⟨q867, qs21⟩
theorem mtX2_number : jMt yX2_number cX2_number 6 (some .int) 2 := ⟨by decide +kernel, q100, q922, by decide⟩
theorem mvX2_number : jMv yX2_number := ⟨q921, qs22⟩
theorem mtX2_going : jMt yX2_going cX2_going 1 (some (.object "MoveNotes$Going")) 0 := ⟨by decide +kernel, q100, q863, by decide⟩
theorem mvX2_going : jMv yX2_going := ⟨q862, qs20⟩
theorem mtX2_fact : jMt yX2_fact cX2_fact 2 (some .int) 0 := ⟨by decide +kernel, q100, q963, by decide⟩
theorem mvX2_fact : jMv yX2_fact := ⟨q962, qs24⟩
theorem mtX2_part : jMt yX2_part cX2_part 3 none 1 := ⟨by decide +kernel, q100, q1015, by decide⟩
theorem mvX2_part : jMv yX2_part := ⟨q1014, qs29⟩
theorem mtX2_sum : jMt yX2_sum cX2_sum 2 (some (.object "MoveNotes$Sum")) 0 := ⟨by decide +kernel, q100, q996, by decide⟩
theorem mvX2_sum : jMv yX2_sum := ⟨q995, qs28⟩
theorem mtX20_init : jMt yX20_init cX20_init 3 none 2 := ⟨by decide +kernel, q125, q1020, by decide⟩
theorem mtX2_tag : jMt yX2_tag cX2_tag 4 (some (.object "MoveNotes$Cond")) 0 := ⟨by decide +kernel, q100, q980, by decide⟩
theorem mvX2_tag : jMv yX2_tag := ⟨q979, qs27⟩
theorem mtX21_init : jMt yX21_init cX21_init 2 none 1 := ⟨by decide +kernel, q126, q1033, by decide⟩
theorem mtX17_init : jMt yX17_init cX17_init 3 none 2 := ⟨by decide +kernel, q122, q1041, by decide⟩
theorem mtX2_atom : jMt yX2_atom cX2_atom 5 (some (.object "MoveNotes$Cond")) 0 := ⟨by decide +kernel, q100, q975, by decide⟩
theorem mvX2_atom : jMv yX2_atom := ⟨q974, qs26⟩
theorem mtX2_row : jMt yX2_row cX2_row 4 (some (.object "MoveNotes$Cond")) 1 := ⟨by decide +kernel, q100, q969, by decide⟩
theorem mvX2_row : jMv yX2_row := ⟨q968, qs25⟩
theorem mtX16_init : jMt yX16_init cX16_init 4 none 3 := ⟨by decide +kernel, q121, q1058, by decide⟩
theorem mtX2_playLine : jMt yX2_playLine cX2_playLine 3 (some (.object "MoveNotes$PlayLine")) 0 := ⟨by decide +kernel, q100, q958, by decide⟩
theorem mvX2_playLine : jMv yX2_playLine := ⟨q957, qs23⟩
theorem mtX2_lines : jMt yX2_lines cX2_lines 6 (some .int) 2 := ⟨by decide +kernel, q100, q851, by decide⟩
theorem mvX2_lines : jMv yX2_lines := ⟨q850, qs17⟩
theorem mtX2_kind : jMt yX2_kind cX2_kind 3 (some (.object "MoveNotes$Kind")) 2 := ⟨by decide +kernel, q100, q845, by decide⟩
theorem mvX2_kind : jMv yX2_kind := ⟨q843, q844⟩
theorem mtX22_init : jMt yX22_init cX22_init 3 none 2 := ⟨by decide +kernel, q130, q1143, by decide⟩
theorem mtX2_measure : jMt yX2_measure cX2_measure 2 (some (.object "MoveNotes$Measure")) 1 := ⟨by decide +kernel, q100, q1138, by decide⟩
theorem mvX2_measure : jMv yX2_measure := ⟨q1136, q1137⟩
theorem mtX10_gathers : jMt yX10_gathers cX10_gathers 10 (some .int) 3 := ⟨by decide +kernel, q111, q674, by decide⟩
theorem mvX10_gathers : jMv yX10_gathers := ⟨q672, q673⟩
theorem mtX10_begins : jMt yX10_begins cX10_begins 4 none 2 := ⟨by decide +kernel, q111, q611, by decide⟩
theorem mvX10_begins : jMv yX10_begins := ⟨q610, qs4⟩
theorem mtX10_bars : jMt yX10_bars cX10_bars 4 (some .boolean) 1 := ⟨by decide +kernel, q111, q631, by decide⟩
theorem mvX10_bars : jMv yX10_bars := ⟨q630, qs7⟩
theorem mtX10_isIn : jMt yX10_isIn cX10_isIn 2 (some .boolean) 1 := ⟨by decide +kernel, q111, q646, by decide⟩
theorem mvX10_isIn : jMv yX10_isIn := ⟨q645, qs9⟩
theorem mtX10_isReading : jMt yX10_isReading cX10_isReading 4 (some .boolean) 1 := ⟨by decide +kernel, q111, q642, by decide⟩
theorem mvX10_isReading : jMv yX10_isReading := ⟨q641, qs8⟩
theorem mtX10_isTaken : jMt yX10_isTaken cX10_isTaken 6 (some .boolean) 2 := ⟨by decide +kernel, q111, q670, by decide⟩
theorem mvX10_isTaken : jMv yX10_isTaken := ⟨q669, qs12⟩
theorem mtX20_holds : jMt yX20_holds cX20_holds 2 (some .boolean) 1 := ⟨by decide +kernel, q125, q729, by decide⟩
theorem mtX17_holds : jMt yX17_holds cX17_holds 3 (some .boolean) 1 := ⟨by decide +kernel, q122, q721, by decide⟩
theorem mtX21_holds : jMt yX21_holds cX21_holds 2 (some .boolean) 1 := ⟨by decide +kernel, q126, q739, by decide⟩
theorem mtX16_tells : jMt yX16_tells cX16_tells 2 (some .int) 1 := ⟨by decide +kernel, q121, q711, by decide⟩
theorem mvX16_tells : jMv yX16_tells := ⟨q709, q710⟩
theorem mtX22_tells : jMt yX22_tells cX22_tells 4 (some .int) 1 := ⟨by decide +kernel, q130, q707, by decide⟩
theorem mvX22_tells : jMv yX22_tells := ⟨q705, q706⟩
theorem mtX10_played : jMt yX10_played cX10_played 8 (some .int) 1 := ⟨by decide +kernel, q111, q658, by decide⟩
theorem mvX10_played : jMv yX10_played := ⟨q657, qs11⟩
theorem mtX10_found : jMt yX10_found cX10_found 3 none 1 := ⟨by decide +kernel, q111, q653, by decide⟩
theorem mvX10_found : jMv yX10_found := ⟨q652, qs10⟩
theorem mtX10_cost : jMt yX10_cost cX10_cost 7 (some .int) 5 := ⟨by decide +kernel, q111, q755, by decide⟩
theorem mvX10_cost : jMv yX10_cost := ⟨q754, qs14⟩
theorem mtX10_leads : jMt yX10_leads cX10_leads 10 (some .int) 6 := ⟨by decide +kernel, q111, q751, by decide⟩
theorem mvX10_leads : jMv yX10_leads := ⟨q750, qs13⟩
theorem mtX10_goes : jMt yX10_goes cX10_goes 10 none 1 := ⟨by decide +kernel, q111, q627, by decide⟩
theorem mvX10_goes : jMv yX10_goes := ⟨q626, qs6⟩
theorem mtX10_walks : jMt yX10_walks cX10_walks 4 none 1 := ⟨by decide +kernel, q111, q615, by decide⟩
theorem mvX10_walks : jMv yX10_walks := ⟨q614, qs5⟩
theorem mtX10_least : jMt yX10_least cX10_least 3 (some .int) 1 := ⟨by decide +kernel, q111, q607, by decide⟩
theorem mvX10_least : jMv yX10_least := ⟨q605, q606⟩
theorem mtX10_lets : jMt yX10_lets cX10_lets 2 (some .int) 1 := ⟨by decide +kernel, q111, q1401, by decide⟩
theorem mvX10_lets : jMv yX10_lets := ⟨q1399, q1400⟩
theorem mtX10_weigh : jMt yX10_weigh cX10_weigh 6 (some .boolean) 4 := ⟨by decide +kernel, q111, q1427, by decide⟩
theorem mvX10_weigh : jMv yX10_weigh := ⟨q1425, q1426⟩
section JW
variable {p : Program} {l : Launch} {e : Env} {R : Room} {s : State} {m : MethodId} {args : Array Value} {below : List Frame} {meth : Method} {c : Code} {Q : State → Prop} {D : jE} {S0 : State} {A0 : Array Value}
theorem wX2_init (K : JK p l R s m args meth c D S0 A0 1 cX2_init "MoveNotes$Reader" 16) (hn : meth.name = "<init>") (sK : Nat → Nat) (bc : Nat) (bs : Nat) (this : Nat) (Qj : JP) (hS : jSt S0 sK) (hret : jRetV p l e R s m args below meth c Q D S0 1 cX2_init Qj) : JR p l e R s m args below meth c Q D S0 1 bc bs (JX2_init sK bc bs this Qj) 0 [some (.ref this)] [] := by
  unfold JX2_init
  refine jr_aload_n K dX2_init_0 rfl ?_
  refine jr_objInit K q151 dX2_init_1 (by decide) (Nat.le_of_ble_eq_true rfl) ?_
  refine jr_aload_n K dX2_init_4 rfl ?_
  refine jr_sipush K dX2_init_5 (v := (nI 400)) (by decide) ?_
  refine jr_newB K dX2_init_8 (fun v8 => ?_)
  refine jr_put K (pf_X2_9 hn) dX2_init_10 rfl rfl ?_
  refine jr_aload_n K dX2_init_13 rfl ?_
  refine jr_iconst K dX2_init_14 (v := (nI 4)) (by decide) ?_
  refine jr_newA K (by decide) rfl q152 q153 dX2_init_15 (fun v15 => ?_)
  refine jr_dup K dX2_init_18 rfl ?_
  refine jr_iconst K dX2_init_19 (v := (nI 0)) (by decide) ?_
  refine jr_ldcS K hS (0, 17, "took") (by decide) dX2_init_20 ?_
  refine jr_aastS K hS dX2_init_22 ?_
  refine jr_dup K dX2_init_23 rfl ?_
  refine jr_iconst K dX2_init_24 (v := (nI 1)) (by decide) ?_
  refine jr_ldcS K hS (1, 19, "value") (by decide) dX2_init_25 ?_
  refine jr_aastS K hS dX2_init_27 ?_
  refine jr_dup K dX2_init_28 rfl ?_
  refine jr_iconst K dX2_init_29 (v := (nI 2)) (by decide) ?_
  refine jr_ldcS K hS (2, 21, "number") (by decide) dX2_init_30 ?_
  refine jr_aastS K hS dX2_init_32 ?_
  refine jr_dup K dX2_init_33 rfl ?_
  refine jr_iconst K dX2_init_34 (v := (nI 3)) (by decide) ?_
  refine jr_ldcS K hS (3, 23, "men") (by decide) dX2_init_35 ?_
  refine jr_aastS K hS dX2_init_37 ?_
  refine jr_put K (pf_X2_25 hn) dX2_init_38 rfl rfl ?_
  refine jr_aload_n K dX2_init_41 rfl ?_
  refine jr_bipush K dX2_init_42 (v := (nI 6)) (by decide) ?_
  refine jr_newA K (by decide) rfl q158 q159 dX2_init_44 (fun v44 => ?_)
  refine jr_put K (pf_X2_31 hn) dX2_init_47 rfl rfl ?_
  refine jr_aload_n K dX2_init_50 rfl ?_
  refine jr_bipush K dX2_init_51 (v := (nI 10)) (by decide) ?_
  refine jr_newA K (by decide) rfl q160 q161 dX2_init_53 (fun v53 => ?_)
  refine jr_put K (pf_X2_37 hn) dX2_init_56 rfl rfl ?_
  refine jr_aload_n K dX2_init_59 rfl ?_
  refine jr_new K (ty0 := fun _ => .int) (in_j0 "MoveNotes$Leap") rfl (fun k h => nomatch h) (fun k h => nomatch h) q162 q163 q102 dX2_init_60 (fun v60 => ?_)
  refine jr_dup K dX2_init_63 rfl ?_
  refine jr_callv0 (jrun_IN (As := []) (st := [.ref v60, .ref this]) K (metX4_init K.hG v60 _) mtX4_init q165 rfl q164 rfl rfl (Nat.le_of_ble_eq_true rfl) (by decide) ⟨Nat.zero_le _, Nat.zero_le _⟩ dX2_init_64) ?_
  refine jr_put K (pf_X2_44 hn) dX2_init_67 rfl rfl ?_
  refine jr_aload_n K dX2_init_70 rfl ?_
  refine jr_new K (ty0 := fun _ => .int) (in_j0 "MoveNotes$Bite") rfl (fun k h => nomatch h) (fun k h => nomatch h) q173 q174 q103 dX2_init_71 (fun v71 => ?_)
  refine jr_dup K dX2_init_74 rfl ?_
  refine jr_callv0 (jrun_IN (As := []) (st := [.ref v71, .ref this]) K (metX5_init K.hG v71 _) mtX5_init q176 rfl q175 rfl rfl (Nat.le_of_ble_eq_true rfl) (by decide) ⟨Nat.zero_le _, Nat.zero_le _⟩ dX2_init_75) ?_
  refine jr_put K (pf_X2_51 hn) dX2_init_78 rfl rfl ?_
  refine jr_aload_n K dX2_init_81 rfl ?_
  refine jr_new K in_X6 rfl tyX6_ok dfo6 q180 q181 q107 dX2_init_82 (fun v82 => ?_)
  refine jr_dup K dX2_init_85 rfl ?_
  refine jr_callv0 (jrun_I (As := []) (st := [.ref v82, .ref this]) K (metX6_init K.hG v82 _) mtX6_init q225 rfl q224 rfl rfl (Nat.le_of_ble_eq_true rfl) (by decide) ⟨Nat.zero_le _, Nat.zero_le _⟩ dX2_init_86) ?_
  refine jr_put K (pf_X2_58 hn) dX2_init_89 rfl rfl ?_
  exact hret _ _ _ _ dX2_init_92
theorem metX2_init (hG : jG l D S0 A0) {sK : Nat → Nat} (hS : jSt S0 sK) (bc : Nat) (bs : Nat) (this : Nat) (Qj : JP) : Met l yX2_init (ws_ yX2_init cX2_init 1 none) (jrm 16 bc bs) (va_Pc [.ref this] (jB D S0 (JX2_init sK bc bs this Qj))) (va_Qv Qj (fun σ t => jRep D S0.heap.size σ t.heap) (jA S0)) bc bs (jA S0) :=
  jr_start hG (by decide) (Nat.le_of_ble_eq_true rfl) rfl fun p e s m below meth c K hr hn => wX2_init K hn sK bc bs this Qj hS (fun _ _ _ _ d => jr_vret K hr d)
theorem wX10_init (K : JK p l R s m args meth c D S0 A0 2 cX10_init "MoveNotes$Search" 13) (hn : meth.name = "<init>") (bc : Nat) (bs : Nat) (this : Nat) (p1 : Nat) (Qj : JP) (hret : jRetV p l e R s m args below meth c Q D S0 2 cX10_init Qj) : JR p l e R s m args below meth c Q D S0 2 bc bs (JX10_init bc bs this p1 Qj) 0 [some (.ref this), some (.ref p1)] [] := by
  unfold JX10_init
  refine jr_aload_n K dX10_init_0 rfl ?_
  refine jr_objInit K q404 dX10_init_1 (by decide) (Nat.le_of_ble_eq_true rfl) ?_
  refine jr_aload_n K dX10_init_4 rfl ?_
  refine jr_new K in_X8 rfl tyX8_ok dfo8 q405 q297 q109 dX10_init_5 (fun v5 => ?_)
  refine jr_dup K dX10_init_8 rfl ?_
  refine jr_bud (fun mc9 ms9 hmc9 hms9 => ?_)
  refine jr_callv ⟨hmc9, hms9⟩ (jrun_I (As := []) (st := [.ref v5, .ref this]) K (metX8_init K.hG mc9 ms9 v5 _) mtX8_init q299 rfl q406 rfl rfl (Nat.le_of_ble_eq_true rfl) (by decide) ⟨hmc9, hms9⟩ dX10_init_9) ?_
  refine jr_put K (pf_X10_12 hn) dX10_init_12 rfl rfl ?_
  refine jr_aload_n K dX10_init_15 rfl ?_
  refine jr_bipush K dX10_init_16 (v := (nI 36)) (by decide) ?_
  refine jr_newZ K dX10_init_18 (fun v18 => ?_)
  refine jr_put K (pf_X10_18 hn) dX10_init_20 rfl rfl ?_
  refine jr_aload_n K dX10_init_23 rfl ?_
  refine jr_bipush K dX10_init_24 (v := (nI 31)) (by decide) ?_
  refine jr_sipush K dX10_init_26 (v := (nI 1296)) (by decide) ?_
  refine jr_newM2 K q407 (by decide) dX10_init_29 (fun v29 => ?_)
  refine jr_put K (pf_X10_24 hn) dX10_init_33 rfl rfl ?_
  refine jr_aload_n K dX10_init_36 rfl ?_
  refine jr_iconst K dX10_init_37 (v := (nI 3)) (by decide) ?_
  refine jr_bipush K dX10_init_38 (v := (nI 31)) (by decide) ?_
  refine jr_bipush K dX10_init_40 (v := (nI 25)) (by decide) ?_
  refine jr_newM3 K q409 (by decide) dX10_init_42 (fun v42 => ?_)
  refine jr_put K (pf_X10_29 hn) dX10_init_46 rfl rfl ?_
  refine jr_aload_n K dX10_init_49 rfl ?_
  refine jr_bipush K dX10_init_50 (v := (nI 30)) (by decide) ?_
  refine jr_newI K dX10_init_52 (fun v52 => ?_)
  refine jr_put K (pf_X10_32 hn) dX10_init_54 rfl rfl ?_
  refine jr_aload_n K dX10_init_57 rfl ?_
  refine jr_bipush K dX10_init_58 (v := (nI 30)) (by decide) ?_
  refine jr_newI K dX10_init_60 (fun v60 => ?_)
  refine jr_put K (pf_X10_36 hn) dX10_init_62 rfl rfl ?_
  refine jr_aload_n K dX10_init_65 rfl ?_
  refine jr_bipush K dX10_init_66 (v := (nI 30)) (by decide) ?_
  refine jr_newI K dX10_init_68 (fun v68 => ?_)
  refine jr_put K (pf_X10_39 hn) dX10_init_70 rfl rfl ?_
  refine jr_aload_n K dX10_init_73 rfl ?_
  refine jr_bipush K dX10_init_74 (v := (nI 30)) (by decide) ?_
  refine jr_newI K dX10_init_76 (fun v76 => ?_)
  refine jr_put K (pf_X10_42 hn) dX10_init_78 rfl rfl ?_
  refine jr_aload_n K dX10_init_81 rfl ?_
  refine jr_bipush K dX10_init_82 (v := (nI 8)) (by decide) ?_
  refine jr_newI K dX10_init_84 (fun v84 => ?_)
  refine jr_put K (pf_X10_45 hn) dX10_init_86 rfl rfl ?_
  refine jr_aload_n K dX10_init_89 rfl ?_
  refine jr_bipush K dX10_init_90 (v := (nI 6)) (by decide) ?_
  refine jr_newI K dX10_init_92 (fun v92 => ?_)
  refine jr_put K (pf_X10_48 hn) dX10_init_94 rfl rfl ?_
  refine jr_aload_n K dX10_init_97 rfl ?_
  refine jr_new K in_X8 rfl tyX8_ok dfo8 q405 q297 q109 dX10_init_98 (fun v98 => ?_)
  refine jr_dup K dX10_init_101 rfl ?_
  refine jr_bud (fun mc102 ms102 hmc102 hms102 => ?_)
  refine jr_callv ⟨hmc102, hms102⟩ (jrun_I (As := []) (st := [.ref v98, .ref this]) K (metX8_init K.hG mc102 ms102 v98 _) mtX8_init q299 rfl q406 rfl rfl (Nat.le_of_ble_eq_true rfl) (by decide) ⟨hmc102, hms102⟩ dX10_init_102) ?_
  refine jr_put K (pf_X10_51 hn) dX10_init_105 rfl rfl ?_
  refine jr_aload_n K dX10_init_108 rfl ?_
  refine jr_aload_n K dX10_init_109 rfl ?_
  refine jr_put K (pf_X10_54 hn) dX10_init_110 rfl rfl ?_
  exact hret _ _ _ _ dX10_init_113
theorem metX10_init (hG : jG l D S0 A0) (bc : Nat) (bs : Nat) (this : Nat) (p1 : Nat) (Qj : JP) : Met l yX10_init (ws_ yX10_init cX10_init 2 none) (jrm 13 bc bs) (va_Pc [.ref this, .ref p1] (jB D S0 (JX10_init bc bs this p1 Qj))) (va_Qv Qj (fun σ t => jRep D S0.heap.size σ t.heap) (jA S0)) bc bs (jA S0) :=
  jr_start hG (by decide) (Nat.le_of_ble_eq_true rfl) rfl fun p e s m below meth c K hr hn => wX10_init K hn bc bs this p1 Qj (fun _ _ _ _ d => jr_vret K hr d)
theorem wX2_sign_0 (K : JK p l R s m args meth c D S0 A0 1 cX2_sign "MoveNotes$Reader" 12) (bc bs : Nat) (this : Nat) (k38 : JP) (hk38 : JR p l e R s m args below meth c Q D S0 1 bc bs k38 38 [some (.ref this)] []) : ∀ (n : Nat), JR p l e R s m args below meth c Q D S0 1 bc bs (jit (FX2_sign_0 this k38) jbot n) 0 [some (.ref this)] [] := by
  intro n
  induction n with
  | zero =>
    exact JR.bot
  | succ n ih0 =>
    show JR p l e R s m args below meth c Q D S0 1 bc bs (FX2_sign_0 this k38 (jit (FX2_sign_0 this k38) jbot n)) 0 [some (.ref this)] []
    generalize jit (FX2_sign_0 this k38) jbot n = rec0 at ih0 ⊢
    unfold FX2_sign_0
    refine jr_aload_n K dX2_sign_0 rfl ?_
    refine jr_getI K gf_X2_66 dX2_sign_1 (fun v1 => ?_)
    refine jr_aload_n K dX2_sign_4 rfl ?_
    refine jr_getI K gf_X2_69 dX2_sign_5 (fun v5 => ?_)
    refine jr_icmp_ge K (tgt := 38) dX2_sign_8 (by decide) ?_ ?_
    · exact jr_weak (hk38) ⟨rfl, trivial⟩
    · refine jr_aload_n K dX2_sign_11 rfl ?_
      refine jr_getA K gf_X2_9 dX2_sign_12 (fun v12 => ?_)
      refine jr_aload_n K dX2_sign_15 rfl ?_
      refine jr_getI K gf_X2_66 dX2_sign_16 (fun v16 => ?_)
      refine jr_bald K dX2_sign_19 (fun v19 => ?_)
      refine jr_bipush K dX2_sign_20 (v := (nI 32)) (by decide) ?_
      refine jr_icmp_ne K (tgt := 38) dX2_sign_22 (by decide) ?_ ?_
      · exact jr_weak (hk38) ⟨rfl, trivial⟩
      · refine jr_aload_n K dX2_sign_25 rfl ?_
        refine jr_dup K dX2_sign_26 rfl ?_
        refine jr_getI K gf_X2_66 dX2_sign_27 (fun v27 => ?_)
        refine jr_iconst K dX2_sign_30 (v := (nI 1)) (by decide) ?_
        refine jr_iadd K dX2_sign_31 ?_
        refine jr_put K pf_X2_66 dX2_sign_32 rfl rfl ?_
        refine jr_goto K (tgt := 0) dX2_sign_35 (by decide) ?_
        exact jr_weak (ih0) ⟨rfl, trivial⟩
theorem wX2_sign (K : JK p l R s m args meth c D S0 A0 1 cX2_sign "MoveNotes$Reader" 12) (bc bs : Nat) (this : Nat) (Qj : Int32 → JP) (hret : jRetI p l e R s m args below meth c Q D S0 1 cX2_sign Qj) : JR p l e R s m args below meth c Q D S0 1 bc bs (JX2_sign this Qj) 0 [some (.ref this)] [] := by
  unfold JX2_sign
  refine jr_ex (fun n0 => ?_)
  refine jr_weak (wX2_sign_0 K bc bs this _ ?_ n0) ⟨rfl, trivial⟩
  · refine jr_aload_n K dX2_sign_38 rfl ?_
    refine jr_getI K gf_X2_66 dX2_sign_39 (fun v39 => ?_)
    refine jr_aload_n K dX2_sign_42 rfl ?_
    refine jr_getI K gf_X2_69 dX2_sign_43 (fun v43 => ?_)
    refine jr_icmp_ge K (tgt := 65) dX2_sign_46 (by decide) ?_ ?_
    · refine jr_iconst K dX2_sign_65 (v := (-1)) (by decide) ?_
      exact hret _ _ _ _ _ dX2_sign_66
    · refine jr_aload_n K dX2_sign_49 rfl ?_
      refine jr_getA K gf_X2_9 dX2_sign_50 (fun v50 => ?_)
      refine jr_aload_n K dX2_sign_53 rfl ?_
      refine jr_getI K gf_X2_66 dX2_sign_54 (fun v54 => ?_)
      refine jr_bald K dX2_sign_57 (fun v57 => ?_)
      refine jr_sipush K dX2_sign_58 (v := (nI 255)) (by decide) ?_
      refine jr_iand K dX2_sign_61 ?_
      refine jr_goto K (tgt := 66) dX2_sign_62 (by decide) ?_
      exact hret _ _ _ _ _ dX2_sign_66
theorem metX2_sign (hG : jG l D S0 A0) (this : Nat) (Qj : Int32 → JP) : Met l yX2_sign (ws_ yX2_sign cX2_sign 1 (some .int)) (jrm 12 0 0) (va_Pc [.ref this] (jB D S0 (JX2_sign this Qj))) (va_Qi Qj (fun σ t => jRep D S0.heap.size σ t.heap) (jA S0)) 0 0 (jA S0) :=
  jr_start hG (by decide) (Nat.le_of_ble_eq_true rfl) rfl fun p e s m below meth c K hr hn => wX2_sign K _ _ this Qj (fun _ _ _ _ _ d => jr_iret K hr rfl d)
theorem wX2_fail (K : JK p l R s m args meth c D S0 A0 2 cX2_fail "MoveNotes$Reader" 12) (bc bs : Nat) (this : Nat) (p1 : Int32) (Ex : Nat → Nat → JP) (Qj : JP) (hEx : jThr p l e R s m args below meth c Q D S0 2 cX2_fail "MoveNotes$Reader" [] Ex) (hret : jRetV p l e R s m args below meth c Q D S0 2 cX2_fail Qj) : JR p l e R s m args below meth c Q D S0 2 bc bs (JX2_fail this p1 Ex Qj) 0 [some (.ref this), some (.int p1)] [] := by
  unfold JX2_fail
  refine jr_aload_n K dX2_fail_0 rfl ?_
  refine jr_getA K gf_X2_58 dX2_fail_1 (fun v1 => ?_)
  refine jr_iload_n K dX2_fail_4 rfl ?_
  refine jr_put K pf_X2_62 dX2_fail_5 rfl rfl ?_
  refine jr_aload_n K dX2_fail_8 rfl ?_
  refine jr_getA K gf_X2_58 dX2_fail_9 (fun v9 => ?_)
  exact jr_throwO K hEx (fun _ h => nomatch h) dX2_fail_12
theorem metX2_fail (hG : jG l D S0 A0) (this : Nat) (p1 : Int32) (Ex : Nat → Nat → JP) (Qj : JP) : vx_Met l yX2_fail (ws_ yX2_fail cX2_fail 2 none) (jrm 12 0 0) (va_Pc [.ref this, .int p1] (jB D S0 (JX2_fail this p1 Ex Qj))) (va_Qv Qj (fun σ t => jRep D S0.heap.size σ t.heap) (jA S0)) (jXC D S0 Ex) 0 0 (jA S0) :=
  jx_start hG (by decide) (by decide) (Nat.le_of_ble_eq_true rfl) rfl fun p e s m below meth c K hr hEx => wX2_fail K _ _ this p1 Ex Qj hEx (fun _ _ _ _ d => jr_xret jx_mq (jr_vret K hr d))
theorem wX2_takes_69 (K : JK p l R s m args meth c D S0 A0 6 cX2_takes "MoveNotes$Reader" 16) (bc bs : Nat) (sK : Nat → Nat) (this : Nat) (p1 : Nat) (y3_46 : Int32) (k117 : Int32 → JP) (hS : jSt S0 sK) (hk117 : ∀ (y4_117 : Int32), JR p l e R s m args below meth c Q D S0 6 bc bs (k117 y4_117) 117 [some (.ref this), none, none, some (.int y3_46), some (.int y4_117), none] []) : ∀ (n : Nat) (x4_69 : Int32) (x5_69 : Int32), JR p l e R s m args below meth c Q D S0 6 bc bs (jit (FX2_takes_69 sK this p1 k117) (fun _ _ => jbot) n x4_69 x5_69) 69 [some (.ref this), some (.ref p1), none, some (.int y3_46), some (.int x4_69), some (.int x5_69)] [] := by
  intro n
  induction n with
  | zero =>
    intro x4_69 x5_69
    exact JR.bot
  | succ n ih69 =>
    intro x4_69 x5_69
    show JR p l e R s m args below meth c Q D S0 6 bc bs (FX2_takes_69 sK this p1 k117 (jit (FX2_takes_69 sK this p1 k117) (fun _ _ => jbot) n) x4_69 x5_69) 69 [some (.ref this), some (.ref p1), none, some (.int y3_46), some (.int x4_69), some (.int x5_69)] []
    generalize jit (FX2_takes_69 sK this p1 k117) (fun _ _ => jbot) n = rec69 at ih69 ⊢
    unfold FX2_takes_69
    refine jr_iload K dX2_takes_69 rfl ?_
    refine jr_aload_n K dX2_takes_71 rfl ?_
    refine jr_calli0 (jrun_VS (As := []) (st := [.int x5_69]) K hS rfl (metJ3_length K.hG hS p1 _) mtJ3_length mvJ3_length q869 rfl rfl (Nat.le_of_ble_eq_true rfl) (by decide) ⟨Nat.zero_le _, Nat.zero_le _⟩ dX2_takes_72) (fun v72 => ?_)
    refine jr_icmp_ge K (tgt := 117) dX2_takes_75 (by decide) ?_ ?_
    · exact jr_weak (hk117 x4_69) ⟨rfl, rfl, rfl, trivial⟩
    · refine jr_iload K dX2_takes_78 rfl ?_
      refine jr_if_eq K (tgt := 117) dX2_takes_80 (by decide) ?_ ?_
      · exact jr_weak (hk117 x4_69) ⟨rfl, rfl, rfl, trivial⟩
      · refine jr_aload_n K dX2_takes_83 rfl ?_
        refine jr_getA K gf_X2_9 dX2_takes_84 (fun v84 => ?_)
        refine jr_aload_n K dX2_takes_87 rfl ?_
        refine jr_getI K gf_X2_66 dX2_takes_88 (fun v88 => ?_)
        refine jr_iload K dX2_takes_91 rfl ?_
        refine jr_iadd K dX2_takes_93 ?_
        refine jr_bald K dX2_takes_94 (fun v94 => ?_)
        refine jr_aload_n K dX2_takes_95 rfl ?_
        refine jr_iload K dX2_takes_96 rfl ?_
        refine jr_calli0 (jrun_VS (As := [.int x5_69]) (st := [.int v94]) K hS rfl (metJ3_charAt K.hG hS p1 x5_69 _) mtJ3_charAt mvJ3_charAt q879 rfl rfl (Nat.le_of_ble_eq_true rfl) (by decide) ⟨Nat.zero_le _, Nat.zero_le _⟩ dX2_takes_98) (fun v98 => ?_)
        refine jr_join (fun (k109 : Int32 → JP) => ∀ (s0_109 : Int32), JR p l e R s m args below meth c Q D S0 6 bc bs (k109 s0_109) 109 [some (.ref this), some (.ref p1), none, some (.int y3_46), none, some (.int x5_69)] [.int s0_109]) ?_ (fun k109 hk109 => ?_)
        · intro s0_109
          refine jr_istore K (L' := [some (.ref this), some (.ref p1), none, some (.int y3_46), some (.int s0_109), some (.int x5_69)]) dX2_takes_109 (by decide) rfl rfl ?_
          refine jr_iinc K (v := (x5_69 + (nI 1))) (L' := [some (.ref this), some (.ref p1), none, some (.int y3_46), some (.int s0_109), some (.int (x5_69 + (nI 1)))]) dX2_takes_111 rfl rfl (by decide) rfl rfl ?_
          refine jr_goto K (tgt := 69) dX2_takes_114 (by decide) ?_
          exact jr_weak (ih69 s0_109 (x5_69 + (nI 1))) ⟨rfl, rfl, rfl, rfl, rfl, trivial⟩
        refine jr_icmp_ne K (tgt := 108) dX2_takes_101 (by decide) ?_ ?_
        · refine jr_iconst K dX2_takes_108 (v := (nI 0)) (by decide) ?_
          exact jr_weak (hk109 (nI 0)) ⟨rfl, rfl, rfl, rfl, trivial⟩
        · refine jr_iconst K dX2_takes_104 (v := (nI 1)) (by decide) ?_
          refine jr_goto K (tgt := 109) dX2_takes_105 (by decide) ?_
          exact jr_weak (hk109 (nI 1)) ⟨rfl, rfl, rfl, rfl, trivial⟩
theorem wX2_takes_10 (K : JK p l R s m args meth c D S0 A0 6 cX2_takes "MoveNotes$Reader" 16) (bc bs : Nat) (this : Nat) (p1 : Nat) (k46 : Int32 → JP) (hk46 : ∀ (y3_46 : Int32), JR p l e R s m args below meth c Q D S0 6 bc bs (k46 y3_46) 46 [some (.ref this), some (.ref p1), none, some (.int y3_46), none, none] []) : ∀ (n : Nat) (x3_10 : Int32), JR p l e R s m args below meth c Q D S0 6 bc bs (jit (FX2_takes_10 this k46) (fun _ => jbot) n x3_10) 10 [some (.ref this), some (.ref p1), none, some (.int x3_10), none, none] [] := by
  intro n
  induction n with
  | zero =>
    intro x3_10
    exact JR.bot
  | succ n ih10 =>
    intro x3_10
    show JR p l e R s m args below meth c Q D S0 6 bc bs (FX2_takes_10 this k46 (jit (FX2_takes_10 this k46) (fun _ => jbot) n) x3_10) 10 [some (.ref this), some (.ref p1), none, some (.int x3_10), none, none] []
    generalize jit (FX2_takes_10 this k46) (fun _ => jbot) n = rec10 at ih10 ⊢
    unfold FX2_takes_10
    refine jr_iload_n K dX2_takes_10 rfl ?_
    refine jr_aload_n K dX2_takes_11 rfl ?_
    refine jr_getI K gf_X2_69 dX2_takes_12 (fun v12 => ?_)
    refine jr_icmp_ge K (tgt := 46) dX2_takes_15 (by decide) ?_ ?_
    · exact jr_weak (hk46 x3_10) ⟨rfl, rfl, rfl, trivial⟩
    · refine jr_aload_n K dX2_takes_18 rfl ?_
      refine jr_getA K gf_X2_9 dX2_takes_19 (fun v19 => ?_)
      refine jr_iload_n K dX2_takes_22 rfl ?_
      refine jr_bald K dX2_takes_23 (fun v23 => ?_)
      refine jr_bipush K dX2_takes_24 (v := (nI 97)) (by decide) ?_
      refine jr_icmp_lt K (tgt := 46) dX2_takes_26 (by decide) ?_ ?_
      · exact jr_weak (hk46 x3_10) ⟨rfl, rfl, rfl, trivial⟩
      · refine jr_aload_n K dX2_takes_29 rfl ?_
        refine jr_getA K gf_X2_9 dX2_takes_30 (fun v30 => ?_)
        refine jr_iload_n K dX2_takes_33 rfl ?_
        refine jr_bald K dX2_takes_34 (fun v34 => ?_)
        refine jr_bipush K dX2_takes_35 (v := (nI 122)) (by decide) ?_
        refine jr_icmp_gt K (tgt := 46) dX2_takes_37 (by decide) ?_ ?_
        · exact jr_weak (hk46 x3_10) ⟨rfl, rfl, rfl, trivial⟩
        · refine jr_iinc K (v := (x3_10 + (nI 1))) (L' := [some (.ref this), some (.ref p1), none, some (.int (x3_10 + (nI 1))), none, none]) dX2_takes_40 rfl rfl (by decide) rfl rfl ?_
          refine jr_goto K (tgt := 10) dX2_takes_43 (by decide) ?_
          exact jr_weak (ih10 (x3_10 + (nI 1))) ⟨rfl, rfl, rfl, trivial⟩
theorem wX2_takes (K : JK p l R s m args meth c D S0 A0 6 cX2_takes "MoveNotes$Reader" 16) (bc bs : Nat) (sK : Nat → Nat) (this : Nat) (p1 : Nat) (Qj : Int32 → JP) (hS : jSt S0 sK) (hret : jRetZ p l e R s m args below meth c Q D S0 6 cX2_takes Qj) : JR p l e R s m args below meth c Q D S0 6 bc bs (JX2_takes sK this p1 Qj) 0 [some (.ref this), some (.ref p1), none, none, none, none] [] := by
  unfold JX2_takes
  refine jr_aload_n K dX2_takes_0 rfl ?_
  refine jr_calli0 (jrun_V (As := []) (st := []) (ci := 2) K (metX2_sign K.hG this _) mtX2_sign mvX2_sign q852 rfl rfl rfl (Nat.le_of_ble_eq_true rfl) (by decide) ⟨Nat.zero_le _, Nat.zero_le _⟩ dX2_takes_1) (fun v1 => ?_)
  refine jr_istore_n K (L' := [some (.ref this), some (.ref p1), some (.int v1), none, none, none]) dX2_takes_4 (by decide) rfl rfl ?_
  refine jr_aload_n K dX2_takes_5 rfl ?_
  refine jr_getI K gf_X2_66 dX2_takes_6 (fun v6 => ?_)
  refine jr_istore_n K (L' := [some (.ref this), some (.ref p1), some (.int v1), some (.int v6), none, none]) dX2_takes_9 (by decide) rfl rfl ?_
  refine jr_ex (fun n10 => ?_)
  refine jr_weak (wX2_takes_10 K bc bs this p1 _ ?_ n10 v6) ⟨rfl, rfl, rfl, trivial⟩
  · intro y3_46
    refine jr_iload_n K dX2_takes_46 rfl ?_
    refine jr_aload_n K dX2_takes_47 rfl ?_
    refine jr_getI K gf_X2_66 dX2_takes_48 (fun v48 => ?_)
    refine jr_isub K dX2_takes_51 ?_
    refine jr_aload_n K dX2_takes_52 rfl ?_
    refine jr_calli0 (jrun_VS (As := []) (st := [.int (y3_46 - v48)]) K hS rfl (metJ3_length K.hG hS p1 _) mtJ3_length mvJ3_length q869 rfl rfl (Nat.le_of_ble_eq_true rfl) (by decide) ⟨Nat.zero_le _, Nat.zero_le _⟩ dX2_takes_53) (fun v53 => ?_)
    refine jr_join (fun (k64 : Int32 → JP) => ∀ (s0_64 : Int32), JR p l e R s m args below meth c Q D S0 6 bc bs (k64 s0_64) 64 [some (.ref this), some (.ref p1), none, some (.int y3_46), none, none] [.int s0_64]) ?_ (fun k64 hk64 => ?_)
    · intro s0_64
      refine jr_istore K (L' := [some (.ref this), some (.ref p1), none, some (.int y3_46), some (.int s0_64), none]) dX2_takes_64 (by decide) rfl rfl ?_
      refine jr_iconst K dX2_takes_66 (v := (nI 0)) (by decide) ?_
      refine jr_istore K (L' := [some (.ref this), some (.ref p1), none, some (.int y3_46), some (.int s0_64), some (.int (nI 0))]) dX2_takes_67 (by decide) rfl rfl ?_
      refine jr_ex (fun n69 => ?_)
      refine jr_weak (wX2_takes_69 K bc bs sK this p1 y3_46 _ hS ?_ n69 s0_64 (nI 0)) ⟨rfl, rfl, rfl, rfl, rfl, trivial⟩
      · intro y4_117
        refine jr_iload K dX2_takes_117 rfl ?_
        refine jr_if_eq K (tgt := 127) dX2_takes_119 (by decide) ?_ ?_
        · refine jr_iload K dX2_takes_127 rfl ?_
          exact hret _ _ _ _ _ dX2_takes_129
        · refine jr_aload_n K dX2_takes_122 rfl ?_
          refine jr_iload_n K dX2_takes_123 rfl ?_
          refine jr_put K pf_X2_66 dX2_takes_124 rfl rfl ?_
          refine jr_iload K dX2_takes_127 rfl ?_
          exact hret _ _ _ _ _ dX2_takes_129
    refine jr_icmp_ne K (tgt := 63) dX2_takes_56 (by decide) ?_ ?_
    · refine jr_iconst K dX2_takes_63 (v := (nI 0)) (by decide) ?_
      exact jr_weak (hk64 (nI 0)) ⟨rfl, rfl, rfl, trivial⟩
    · refine jr_iconst K dX2_takes_59 (v := (nI 1)) (by decide) ?_
      refine jr_goto K (tgt := 64) dX2_takes_60 (by decide) ?_
      exact jr_weak (hk64 (nI 1)) ⟨rfl, rfl, rfl, trivial⟩
theorem metX2_takes (hG : jG l D S0 A0) {sK : Nat → Nat} (hS : jSt S0 sK) (this : Nat) (p1 : Nat) (Qj : Int32 → JP) : Met l yX2_takes (ws_ yX2_takes cX2_takes 6 (some .boolean)) (jrm 16 0 0) (va_Pc [.ref this, .ref p1] (jB D S0 (JX2_takes sK this p1 Qj))) (va_Qi Qj (fun σ t => jRep D S0.heap.size σ t.heap) (jA S0)) 0 0 (jA S0) :=
  jr_start hG (by decide) (Nat.le_of_ble_eq_true rfl) rfl fun p e s m below meth c K hr hn => wX2_takes K _ _ sK this p1 Qj hS (fun _ _ _ _ _ d => jr_zret K hr d)
theorem wX2_number_14 (K : JK p l R s m args meth c D S0 A0 6 cX2_number "MoveNotes$Reader" 13) (bc bs : Nat) (this : Nat) (p1 : Int32) (p2 : Int32) (Ex : Nat → Nat → JP) (v6 : Int32) (k103 : Int32 → JP) (hEx : jThr p l e R s m args below meth c Q D S0 6 cX2_number "MoveNotes$Reader" [] Ex) (hk103 : ∀ (y5_103 : Int32), JR p l e R s m args below meth c Q D S0 6 bc bs (k103 y5_103) 103 [some (.ref this), some (.int p1), some (.int p2), none, some (.int v6), some (.int y5_103)] []) : ∀ (n : Nat) (x5_14 : Int32), JR p l e R s m args below meth c Q D S0 6 bc bs (jit (FX2_number_14 this Ex v6 k103) (fun _ => jbot) n x5_14) 14 [some (.ref this), some (.int p1), some (.int p2), none, some (.int v6), some (.int x5_14)] [] := by
  intro n
  induction n with
  | zero =>
    intro x5_14
    exact JR.bot
  | succ n ih14 =>
    intro x5_14
    show JR p l e R s m args below meth c Q D S0 6 bc bs (FX2_number_14 this Ex v6 k103 (jit (FX2_number_14 this Ex v6 k103) (fun _ => jbot) n) x5_14) 14 [some (.ref this), some (.int p1), some (.int p2), none, some (.int v6), some (.int x5_14)] []
    generalize jit (FX2_number_14 this Ex v6 k103) (fun _ => jbot) n = rec14 at ih14 ⊢
    unfold FX2_number_14
    refine jr_aload_n K dX2_number_14 rfl ?_
    refine jr_getI K gf_X2_66 dX2_number_15 (fun v15 => ?_)
    refine jr_aload_n K dX2_number_18 rfl ?_
    refine jr_getI K gf_X2_69 dX2_number_19 (fun v19 => ?_)
    refine jr_icmp_ge K (tgt := 103) dX2_number_22 (by decide) ?_ ?_
    · exact jr_weak (hk103 x5_14) ⟨rfl, rfl, rfl, rfl, rfl, trivial⟩
    · refine jr_aload_n K dX2_number_25 rfl ?_
      refine jr_getA K gf_X2_9 dX2_number_26 (fun v26 => ?_)
      refine jr_aload_n K dX2_number_29 rfl ?_
      refine jr_getI K gf_X2_66 dX2_number_30 (fun v30 => ?_)
      refine jr_bald K dX2_number_33 (fun v33 => ?_)
      refine jr_bipush K dX2_number_34 (v := (nI 48)) (by decide) ?_
      refine jr_icmp_lt K (tgt := 103) dX2_number_36 (by decide) ?_ ?_
      · exact jr_weak (hk103 x5_14) ⟨rfl, rfl, rfl, rfl, rfl, trivial⟩
      · refine jr_aload_n K dX2_number_39 rfl ?_
        refine jr_getA K gf_X2_9 dX2_number_40 (fun v40 => ?_)
        refine jr_aload_n K dX2_number_43 rfl ?_
        refine jr_getI K gf_X2_66 dX2_number_44 (fun v44 => ?_)
        refine jr_bald K dX2_number_47 (fun v47 => ?_)
        refine jr_bipush K dX2_number_48 (v := (nI 57)) (by decide) ?_
        refine jr_icmp_gt K (tgt := 103) dX2_number_50 (by decide) ?_ ?_
        · exact jr_weak (hk103 x5_14) ⟨rfl, rfl, rfl, rfl, rfl, trivial⟩
        · refine jr_aload_n K dX2_number_53 rfl ?_
          refine jr_getI K gf_X2_66 dX2_number_54 (fun v54 => ?_)
          refine jr_iload K dX2_number_57 rfl ?_
          refine jr_isub K dX2_number_59 ?_
          refine jr_iconst K dX2_number_60 (v := (nI 3)) (by decide) ?_
          refine jr_join (fun (k70 : JP) => JR p l e R s m args below meth c Q D S0 6 bc bs k70 70 [some (.ref this), some (.int p1), some (.int p2), none, some (.int v6), some (.int x5_14)] []) ?_ (fun k70 hk70 => ?_)
          · refine jr_bipush K dX2_number_70 (v := (nI 10)) (by decide) ?_
            refine jr_iload K dX2_number_72 rfl ?_
            refine jr_imul K dX2_number_74 ?_
            refine jr_aload_n K dX2_number_75 rfl ?_
            refine jr_getA K gf_X2_9 dX2_number_76 (fun v76 => ?_)
            refine jr_aload_n K dX2_number_79 rfl ?_
            refine jr_getI K gf_X2_66 dX2_number_80 (fun v80 => ?_)
            refine jr_bald K dX2_number_83 (fun v83 => ?_)
            refine jr_iadd K dX2_number_84 ?_
            refine jr_bipush K dX2_number_85 (v := (nI 48)) (by decide) ?_
            refine jr_isub K dX2_number_87 ?_
            refine jr_istore K (L' := [some (.ref this), some (.int p1), some (.int p2), none, some (.int v6), some (.int ((((nI 10) * x5_14) + v83) - (nI 48)))]) dX2_number_88 (by decide) rfl rfl ?_
            refine jr_aload_n K dX2_number_90 rfl ?_
            refine jr_dup K dX2_number_91 rfl ?_
            refine jr_getI K gf_X2_66 dX2_number_92 (fun v92 => ?_)
            refine jr_iconst K dX2_number_95 (v := (nI 1)) (by decide) ?_
            refine jr_iadd K dX2_number_96 ?_
            refine jr_put K pf_X2_66 dX2_number_97 rfl rfl ?_
            refine jr_goto K (tgt := 14) dX2_number_100 (by decide) ?_
            exact jr_weak (ih14 ((((nI 10) * x5_14) + v83) - (nI 48))) ⟨rfl, rfl, rfl, rfl, rfl, trivial⟩
          refine jr_icmp_ne K (tgt := 70) dX2_number_61 (by decide) ?_ ?_
          · exact jr_weak (hk70) ⟨rfl, rfl, rfl, rfl, rfl, trivial⟩
          · refine jr_aload_n K dX2_number_64 rfl ?_
            refine jr_iload K dX2_number_65 rfl ?_
            refine jrx_callv ⟨Nat.zero_le _, Nat.zero_le _⟩ (jrunx_V (As := [.int v6]) (st := []) (ci := 2) K (metX2_fail K.hG this v6 Ex _) mtX2_fail mvX2_fail q856 rfl rfl rfl (Nat.le_of_ble_eq_true rfl) (by decide) ⟨Nat.zero_le _, Nat.zero_le _⟩ dX2_number_67) (fun x q => hEx.1 _ _ _ _ x q (fun _ h => nomatch h)) ?_
            exact jr_weak (hk70) ⟨rfl, rfl, rfl, rfl, rfl, trivial⟩
theorem wX2_number (K : JK p l R s m args meth c D S0 A0 6 cX2_number "MoveNotes$Reader" 13) (bc bs : Nat) (this : Nat) (p1 : Int32) (p2 : Int32) (Ex : Nat → Nat → JP) (Qj : Int32 → JP) (hEx : jThr p l e R s m args below meth c Q D S0 6 cX2_number "MoveNotes$Reader" [] Ex) (hret : jRetI p l e R s m args below meth c Q D S0 6 cX2_number Qj) : JR p l e R s m args below meth c Q D S0 6 bc bs (JX2_number this p1 p2 Ex Qj) 0 [some (.ref this), some (.int p1), some (.int p2), none, none, none] [] := by
  unfold JX2_number
  refine jr_aload_n K dX2_number_0 rfl ?_
  refine jr_calli0 (jrun_V (As := []) (st := []) (ci := 2) K (metX2_sign K.hG this _) mtX2_sign mvX2_sign q852 rfl rfl rfl (Nat.le_of_ble_eq_true rfl) (by decide) ⟨Nat.zero_le _, Nat.zero_le _⟩ dX2_number_1) (fun v1 => ?_)
  refine jr_istore_n K (L' := [some (.ref this), some (.int p1), some (.int p2), some (.int v1), none, none]) dX2_number_4 (by decide) rfl rfl ?_
  refine jr_aload_n K dX2_number_5 rfl ?_
  refine jr_getI K gf_X2_66 dX2_number_6 (fun v6 => ?_)
  refine jr_istore K (L' := [some (.ref this), some (.int p1), some (.int p2), some (.int v1), some (.int v6), none]) dX2_number_9 (by decide) rfl rfl ?_
  refine jr_iconst K dX2_number_11 (v := (nI 0)) (by decide) ?_
  refine jr_istore K (L' := [some (.ref this), some (.int p1), some (.int p2), some (.int v1), some (.int v6), some (.int (nI 0))]) dX2_number_12 (by decide) rfl rfl ?_
  refine jr_ex (fun n14 => ?_)
  refine jr_weak (wX2_number_14 K bc bs this p1 p2 Ex v6 _ hEx ?_ n14 (nI 0)) ⟨rfl, rfl, rfl, rfl, rfl, trivial⟩
  · intro y5_103
    refine jr_aload_n K dX2_number_103 rfl ?_
    refine jr_getI K gf_X2_66 dX2_number_104 (fun v104 => ?_)
    refine jr_iload K dX2_number_107 rfl ?_
    refine jr_join (fun (k124 : JP) => JR p l e R s m args below meth c Q D S0 6 bc bs k124 124 [some (.ref this), none, none, none, some (.int v6), some (.int y5_103)] []) ?_ (fun k124 hk124 => ?_)
    · refine jr_aload_n K dX2_number_124 rfl ?_
      refine jr_iload K dX2_number_125 rfl ?_
      refine jrx_callv ⟨Nat.zero_le _, Nat.zero_le _⟩ (jrunx_V (As := [.int v6]) (st := []) (ci := 2) K (metX2_fail K.hG this v6 Ex _) mtX2_fail mvX2_fail q856 rfl rfl rfl (Nat.le_of_ble_eq_true rfl) (by decide) ⟨Nat.zero_le _, Nat.zero_le _⟩ dX2_number_127) (fun x q => hEx.1 _ _ _ _ x q (fun _ h => nomatch h)) ?_
      refine jr_iload K dX2_number_130 rfl ?_
      exact hret _ _ _ _ _ dX2_number_132
    refine jr_icmp_eq K (tgt := 124) dX2_number_109 (by decide) ?_ ?_
    · exact jr_weak (hk124) ⟨rfl, rfl, rfl, trivial⟩
    · refine jr_iload K dX2_number_112 rfl ?_
      refine jr_iload_n K dX2_number_114 rfl ?_
      refine jr_icmp_lt K (tgt := 124) dX2_number_115 (by decide) ?_ ?_
      · exact jr_weak (hk124) ⟨rfl, rfl, rfl, trivial⟩
      · refine jr_iload K dX2_number_118 rfl ?_
        refine jr_iload_n K dX2_number_120 rfl ?_
        refine jr_icmp_le K (tgt := 130) dX2_number_121 (by decide) ?_ ?_
        · refine jr_iload K dX2_number_130 rfl ?_
          exact hret _ _ _ _ _ dX2_number_132
        · exact jr_weak (hk124) ⟨rfl, rfl, rfl, trivial⟩
theorem metX2_number (hG : jG l D S0 A0) (this : Nat) (p1 : Int32) (p2 : Int32) (Ex : Nat → Nat → JP) (Qj : Int32 → JP) : vx_Met l yX2_number (ws_ yX2_number cX2_number 6 (some .int)) (jrm 13 0 0) (va_Pc [.ref this, .int p1, .int p2] (jB D S0 (JX2_number this p1 p2 Ex Qj))) (va_Qi Qj (fun σ t => jRep D S0.heap.size σ t.heap) (jA S0)) (jXC D S0 Ex) 0 0 (jA S0) :=
  jx_start hG (by decide) (by decide) (Nat.le_of_ble_eq_true rfl) rfl fun p e s m below meth c K hr hEx => wX2_number K _ _ this p1 p2 Ex Qj hEx (fun _ _ _ _ _ d => jr_xret jx_mq (jr_iret K hr rfl d))
theorem wX2_going (K : JK p l R s m args meth c D S0 A0 1 cX2_going "MoveNotes$Reader" 17) (sK : Nat → Nat) (bc : Nat) (bs : Nat) (this : Nat) (Ex : Nat → Nat → JP) (Qj : Nat → JP) (hS : jSt S0 sK) (hEx : jThr p l e R s m args below meth c Q D S0 1 cX2_going "MoveNotes$Reader" [] Ex) (hret : jRetA p l e R s m args below meth c Q D S0 1 cX2_going Qj) : JR p l e R s m args below meth c Q D S0 1 bc bs (JX2_going sK bc bs this Ex Qj) 0 [some (.ref this)] [] := by
  unfold JX2_going
  refine jr_aload_n K dX2_going_0 rfl ?_
  refine jr_ldcS K hS (4, 112, "straight") (by decide) dX2_going_1 ?_
  refine jr_calli0 (jrun_V (As := [.ref (sK 4)]) (st := []) (ci := 2) K (metX2_takes K.hG hS this (sK 4) _) mtX2_takes mvX2_takes q865 rfl rfl rfl (Nat.le_of_ble_eq_true rfl) (by decide) ⟨Nat.zero_le _, Nat.zero_le _⟩ dX2_going_3) (fun v3 => ?_)
  refine jr_if_eq K (tgt := 23) dX2_going_6 (by decide) ?_ ?_
  · refine jr_aload_n K dX2_going_23 rfl ?_
    refine jr_ldcS K hS (5, 125, "slant") (by decide) dX2_going_24 ?_
    refine jr_calli0 (jrun_V (As := [.ref (sK 5)]) (st := []) (ci := 2) K (metX2_takes K.hG hS this (sK 5) _) mtX2_takes mvX2_takes q865 rfl rfl rfl (Nat.le_of_ble_eq_true rfl) (by decide) ⟨Nat.zero_le _, Nat.zero_le _⟩ dX2_going_26) (fun v26 => ?_)
    refine jr_if_eq K (tgt := 46) dX2_going_29 (by decide) ?_ ?_
    · refine jr_aload_n K dX2_going_46 rfl ?_
      refine jr_ldcS K hS (6, 130, "ahead") (by decide) dX2_going_47 ?_
      refine jr_calli0 (jrun_V (As := [.ref (sK 6)]) (st := []) (ci := 2) K (metX2_takes K.hG hS this (sK 6) _) mtX2_takes mvX2_takes q865 rfl rfl rfl (Nat.le_of_ble_eq_true rfl) (by decide) ⟨Nat.zero_le _, Nat.zero_le _⟩ dX2_going_49) (fun v49 => ?_)
      refine jr_if_eq K (tgt := 69) dX2_going_52 (by decide) ?_ ?_
      · refine jr_aload_n K dX2_going_69 rfl ?_
        refine jr_ldcS K hS (7, 135, "leap") (by decide) dX2_going_70 ?_
        refine jr_calli0 (jrun_V (As := [.ref (sK 7)]) (st := []) (ci := 2) K (metX2_takes K.hG hS this (sK 7) _) mtX2_takes mvX2_takes q865 rfl rfl rfl (Nat.le_of_ble_eq_true rfl) (by decide) ⟨Nat.zero_le _, Nat.zero_le _⟩ dX2_going_72) (fun v72 => ?_)
        refine jr_if_eq K (tgt := 83) dX2_going_75 (by decide) ?_ ?_
        · refine jr_aload_n K dX2_going_83 rfl ?_
          refine jr_ldcS K hS (8, 136, "bite") (by decide) dX2_going_84 ?_
          refine jr_calli0 (jrun_V (As := [.ref (sK 8)]) (st := []) (ci := 2) K (metX2_takes K.hG hS this (sK 8) _) mtX2_takes mvX2_takes q865 rfl rfl rfl (Nat.le_of_ble_eq_true rfl) (by decide) ⟨Nat.zero_le _, Nat.zero_le _⟩ dX2_going_86) (fun v86 => ?_)
          refine jr_join (fun (k100 : JP) => JR p l e R s m args below meth c Q D S0 1 bc bs k100 100 [some (.ref this)] []) ?_ (fun k100 hk100 => ?_)
          · refine jr_aload_n K dX2_going_100 rfl ?_
            refine jr_getA K gf_X2_51 dX2_going_101 (fun v101 => ?_)
            exact hret _ _ _ _ _ dX2_going_104
          refine jr_if_ne K (tgt := 100) dX2_going_89 (by decide) ?_ ?_
          · exact jr_weak (hk100) ⟨rfl, trivial⟩
          · refine jr_aload_n K dX2_going_92 rfl ?_
            refine jr_aload_n K dX2_going_93 rfl ?_
            refine jr_getI K gf_X2_66 dX2_going_94 (fun v94 => ?_)
            refine jrx_callv ⟨Nat.zero_le _, Nat.zero_le _⟩ (jrunx_V (As := [.int v94]) (st := []) (ci := 2) K (metX2_fail K.hG this v94 Ex _) mtX2_fail mvX2_fail q856 rfl rfl rfl (Nat.le_of_ble_eq_true rfl) (by decide) ⟨Nat.zero_le _, Nat.zero_le _⟩ dX2_going_97) (fun x q => hEx.1 _ _ _ _ x q (fun _ h => nomatch h)) ?_
            exact jr_weak (hk100) ⟨rfl, trivial⟩
        · refine jr_aload_n K dX2_going_78 rfl ?_
          refine jr_getA K gf_X2_44 dX2_going_79 (fun v79 => ?_)
          exact hret _ _ _ _ _ dX2_going_82
      · refine jr_new K in_X15 rfl tyX15_ok dfo15 q943 q944 q120 dX2_going_55 (fun v55 => ?_)
        refine jr_dup K dX2_going_58 rfl ?_
        refine jr_aload_n K dX2_going_59 rfl ?_
        refine jr_iconst K dX2_going_60 (v := (nI 1)) (by decide) ?_
        refine jr_iconst K dX2_going_61 (v := (nI 5)) (by decide) ?_
        refine jrx_calli ⟨Nat.zero_le _, Nat.zero_le _⟩ (jrunx_V (As := [.int (nI 1), .int (nI 5)]) (st := [.ref v55, .ref v55]) (ci := 2) K (metX2_number K.hG this (nI 1) (nI 5) Ex _) mtX2_number mvX2_number q919 rfl rfl rfl (Nat.le_of_ble_eq_true rfl) (by decide) ⟨Nat.zero_le _, Nat.zero_le _⟩ dX2_going_62) (fun x q => hEx.1 _ _ _ _ x q (fun _ h => nomatch h)) (fun v62 => ?_)
        refine jr_callv0 (jrun_I (As := [.int v62]) (st := [.ref v55]) K (metX15_init K.hG v55 v62 _) mtX15_init q946 rfl q945 rfl rfl (Nat.le_of_ble_eq_true rfl) (by decide) ⟨Nat.zero_le _, Nat.zero_le _⟩ dX2_going_65) ?_
        exact hret _ _ _ _ _ dX2_going_68
    · refine jr_new K in_X14 rfl tyX14_ok dfo14 q932 q933 q119 dX2_going_32 (fun v32 => ?_)
      refine jr_dup K dX2_going_35 rfl ?_
      refine jr_aload_n K dX2_going_36 rfl ?_
      refine jr_iconst K dX2_going_37 (v := (nI 1)) (by decide) ?_
      refine jr_iconst K dX2_going_38 (v := (nI 5)) (by decide) ?_
      refine jrx_calli ⟨Nat.zero_le _, Nat.zero_le _⟩ (jrunx_V (As := [.int (nI 1), .int (nI 5)]) (st := [.ref v32, .ref v32]) (ci := 2) K (metX2_number K.hG this (nI 1) (nI 5) Ex _) mtX2_number mvX2_number q919 rfl rfl rfl (Nat.le_of_ble_eq_true rfl) (by decide) ⟨Nat.zero_le _, Nat.zero_le _⟩ dX2_going_39) (fun x q => hEx.1 _ _ _ _ x q (fun _ h => nomatch h)) (fun v39 => ?_)
      refine jr_callv0 (jrun_I (As := [.int v39]) (st := [.ref v32]) K (metX14_init K.hG v32 v39 _) mtX14_init q935 rfl q934 rfl rfl (Nat.le_of_ble_eq_true rfl) (by decide) ⟨Nat.zero_le _, Nat.zero_le _⟩ dX2_going_42) ?_
      exact hret _ _ _ _ _ dX2_going_45
  · refine jr_new K in_X13 rfl tyX13_ok dfo13 q917 q918 q118 dX2_going_9 (fun v9 => ?_)
    refine jr_dup K dX2_going_12 rfl ?_
    refine jr_aload_n K dX2_going_13 rfl ?_
    refine jr_iconst K dX2_going_14 (v := (nI 1)) (by decide) ?_
    refine jr_iconst K dX2_going_15 (v := (nI 5)) (by decide) ?_
    refine jrx_calli ⟨Nat.zero_le _, Nat.zero_le _⟩ (jrunx_V (As := [.int (nI 1), .int (nI 5)]) (st := [.ref v9, .ref v9]) (ci := 2) K (metX2_number K.hG this (nI 1) (nI 5) Ex _) mtX2_number mvX2_number q919 rfl rfl rfl (Nat.le_of_ble_eq_true rfl) (by decide) ⟨Nat.zero_le _, Nat.zero_le _⟩ dX2_going_16) (fun x q => hEx.1 _ _ _ _ x q (fun _ h => nomatch h)) (fun v16 => ?_)
    refine jr_callv0 (jrun_I (As := [.int v16]) (st := [.ref v9]) K (metX13_init K.hG v9 v16 _) mtX13_init q924 rfl q923 rfl rfl (Nat.le_of_ble_eq_true rfl) (by decide) ⟨Nat.zero_le _, Nat.zero_le _⟩ dX2_going_19) ?_
    exact hret _ _ _ _ _ dX2_going_22
theorem metX2_going (hG : jG l D S0 A0) {sK : Nat → Nat} (hS : jSt S0 sK) (bc : Nat) (bs : Nat) (this : Nat) (Ex : Nat → Nat → JP) (Qj : Nat → JP) : vx_Met l yX2_going (ws_ yX2_going cX2_going 1 (some (.object "MoveNotes$Going"))) (jrm 17 bc bs) (va_Pc [.ref this] (jB D S0 (JX2_going sK bc bs this Ex Qj))) (jQr Qj D S0) (jXC D S0 Ex) bc bs (jA S0) :=
  jx_start hG (by decide) (by decide) (Nat.le_of_ble_eq_true rfl) rfl fun p e s m below meth c K hr hEx => wX2_going K sK bc bs this Ex Qj hS hEx (fun _ _ _ _ _ d => jr_xret jx_mq (jr_aret K hr (Or.inl ⟨_, rfl⟩) d))
theorem wX2_fact_2 (K : JK p l R s m args meth c D S0 A0 2 cX2_fact "MoveNotes$Reader" 17) (bc bs : Nat) (sK : Nat → Nat) (this : Nat) (Qj : Int32 → JP) (k28 : JP) (hS : jSt S0 sK) (hret : jRetI p l e R s m args below meth c Q D S0 2 cX2_fact Qj) (hk28 : JR p l e R s m args below meth c Q D S0 2 bc bs k28 28 [some (.ref this), none] []) : ∀ (n : Nat) (x1_2 : Int32), JR p l e R s m args below meth c Q D S0 2 bc bs (jit (FX2_fact_2 sK this Qj k28) (fun _ => jbot) n x1_2) 2 [some (.ref this), some (.int x1_2)] [] := by
  intro n
  induction n with
  | zero =>
    intro x1_2
    exact JR.bot
  | succ n ih2 =>
    intro x1_2
    show JR p l e R s m args below meth c Q D S0 2 bc bs (FX2_fact_2 sK this Qj k28 (jit (FX2_fact_2 sK this Qj k28) (fun _ => jbot) n) x1_2) 2 [some (.ref this), some (.int x1_2)] []
    generalize jit (FX2_fact_2 sK this Qj k28) (fun _ => jbot) n = rec2 at ih2 ⊢
    unfold FX2_fact_2
    refine jr_iload_n K dX2_fact_2 rfl ?_
    refine jr_iconst K dX2_fact_3 (v := (nI 4)) (by decide) ?_
    refine jr_icmp_ge K (tgt := 28) dX2_fact_4 (by decide) ?_ ?_
    · exact jr_weak (hk28) ⟨rfl, trivial⟩
    · refine jr_aload_n K dX2_fact_7 rfl ?_
      refine jr_aload_n K dX2_fact_8 rfl ?_
      refine jr_getA K gf_X2_25 dX2_fact_9 (fun v9 => ?_)
      refine jr_iload_n K dX2_fact_12 rfl ?_
      refine jr_aald K (by decide) dX2_fact_13 (fun v13 => ?_)
      refine jr_calli0 (jrun_V (As := [.ref v13]) (st := []) (ci := 2) K (metX2_takes K.hG hS this v13 _) mtX2_takes mvX2_takes q865 rfl rfl rfl (Nat.le_of_ble_eq_true rfl) (by decide) ⟨Nat.zero_le _, Nat.zero_le _⟩ dX2_fact_14) (fun v14 => ?_)
      refine jr_if_eq K (tgt := 22) dX2_fact_17 (by decide) ?_ ?_
      · refine jr_iinc K (v := (x1_2 + (nI 1))) (L' := [some (.ref this), some (.int (x1_2 + (nI 1)))]) dX2_fact_22 rfl rfl (by decide) rfl rfl ?_
        refine jr_goto K (tgt := 2) dX2_fact_25 (by decide) ?_
        exact jr_weak (ih2 (x1_2 + (nI 1))) ⟨rfl, rfl, trivial⟩
      · refine jr_iload_n K dX2_fact_20 rfl ?_
        exact hret _ _ _ _ _ dX2_fact_21
theorem wX2_fact (K : JK p l R s m args meth c D S0 A0 2 cX2_fact "MoveNotes$Reader" 17) (bc bs : Nat) (sK : Nat → Nat) (this : Nat) (Ex : Nat → Nat → JP) (Qj : Int32 → JP) (hS : jSt S0 sK) (hEx : jThr p l e R s m args below meth c Q D S0 2 cX2_fact "MoveNotes$Reader" [] Ex) (hret : jRetI p l e R s m args below meth c Q D S0 2 cX2_fact Qj) : JR p l e R s m args below meth c Q D S0 2 bc bs (JX2_fact sK this Ex Qj) 0 [some (.ref this), none] [] := by
  unfold JX2_fact
  refine jr_iconst K dX2_fact_0 (v := (nI 0)) (by decide) ?_
  refine jr_istore_n K (L' := [some (.ref this), some (.int (nI 0))]) dX2_fact_1 (by decide) rfl rfl ?_
  refine jr_ex (fun n2 => ?_)
  refine jr_weak (wX2_fact_2 K bc bs sK this Qj _ hS hret ?_ n2 (nI 0)) ⟨rfl, rfl, trivial⟩
  · refine jr_aload_n K dX2_fact_28 rfl ?_
    refine jr_aload_n K dX2_fact_29 rfl ?_
    refine jr_getI K gf_X2_66 dX2_fact_30 (fun v30 => ?_)
    refine jrx_callv ⟨Nat.zero_le _, Nat.zero_le _⟩ (jrunx_V (As := [.int v30]) (st := []) (ci := 2) K (metX2_fail K.hG this v30 Ex _) mtX2_fail mvX2_fail q856 rfl rfl rfl (Nat.le_of_ble_eq_true rfl) (by decide) ⟨Nat.zero_le _, Nat.zero_le _⟩ dX2_fact_33) (fun x q => hEx.1 _ _ _ _ x q (fun _ h => nomatch h)) ?_
    refine jr_iconst K dX2_fact_36 (v := (-1)) (by decide) ?_
    exact hret _ _ _ _ _ dX2_fact_37
theorem metX2_fact (hG : jG l D S0 A0) {sK : Nat → Nat} (hS : jSt S0 sK) (this : Nat) (Ex : Nat → Nat → JP) (Qj : Int32 → JP) : vx_Met l yX2_fact (ws_ yX2_fact cX2_fact 2 (some .int)) (jrm 17 0 0) (va_Pc [.ref this] (jB D S0 (JX2_fact sK this Ex Qj))) (va_Qi Qj (fun σ t => jRep D S0.heap.size σ t.heap) (jA S0)) (jXC D S0 Ex) 0 0 (jA S0) :=
  jx_start hG (by decide) (by decide) (Nat.le_of_ble_eq_true rfl) rfl fun p e s m below meth c K hr hEx => wX2_fact K _ _ sK this Ex Qj hS hEx (fun _ _ _ _ _ d => jr_xret jx_mq (jr_iret K hr rfl d))
theorem wX2_part (K : JK p l R s m args meth c D S0 A0 3 cX2_part "MoveNotes$Reader" 18) (bc bs : Nat) (sK : Nat → Nat) (this : Nat) (p1 : Nat) (Ex : Nat → Nat → JP) (Qj : JP) (hS : jSt S0 sK) (hEx : jThr p l e R s m args below meth c Q D S0 3 cX2_part "MoveNotes$Reader" [] Ex) (hret : jRetV p l e R s m args below meth c Q D S0 3 cX2_part Qj) : JR p l e R s m args below meth c Q D S0 3 bc bs (JX2_part sK this p1 Ex Qj) 0 [some (.ref this), some (.ref p1), none] [] := by
  unfold JX2_part
  refine jr_aload_n K dX2_part_0 rfl ?_
  refine jr_calli0 (jrun_V (As := []) (st := []) (ci := 2) K (metX2_sign K.hG this _) mtX2_sign mvX2_sign q852 rfl rfl rfl (Nat.le_of_ble_eq_true rfl) (by decide) ⟨Nat.zero_le _, Nat.zero_le _⟩ dX2_part_1) (fun v1 => ?_)
  refine jr_istore_n K (L' := [some (.ref this), some (.ref p1), some (.int v1)]) dX2_part_4 (by decide) rfl rfl ?_
  refine jr_iload_n K dX2_part_5 rfl ?_
  refine jr_bipush K dX2_part_6 (v := (nI 48)) (by decide) ?_
  refine jr_join (fun (k37 : JP) => JR p l e R s m args below meth c Q D S0 3 bc bs k37 37 [some (.ref this), some (.ref p1), none] []) ?_ (fun k37 hk37 => ?_)
  · refine jr_aload_n K dX2_part_37 rfl ?_
    refine jr_getA K gf_X2_201 dX2_part_38 (fun v38 => ?_)
    refine jr_aload_n K dX2_part_41 rfl ?_
    refine jrx_calli ⟨Nat.zero_le _, Nat.zero_le _⟩ (jrunx_V (As := []) (st := [.ref v38]) (ci := 2) K (metX2_fact K.hG hS this Ex _) mtX2_fact mvX2_fact q960 rfl rfl rfl (Nat.le_of_ble_eq_true rfl) (by decide) ⟨Nat.zero_le _, Nat.zero_le _⟩ dX2_part_42) (fun x q => hEx.1 _ _ _ _ x q (fun _ h => nomatch h)) (fun v42 => ?_)
    refine jr_dup2 K dX2_part_45 rfl rfl ?_
    refine jr_iald K dX2_part_46 (fun v46 => ?_)
    refine jr_iconst K dX2_part_47 (v := (nI 1)) (by decide) ?_
    refine jr_iadd K dX2_part_48 ?_
    refine jr_iast K dX2_part_49 ?_
    exact hret _ _ _ _ dX2_part_50
  refine jr_icmp_lt K (tgt := 37) dX2_part_8 (by decide) ?_ ?_
  · exact jr_weak (hk37) ⟨rfl, rfl, trivial⟩
  · refine jr_iload_n K dX2_part_11 rfl ?_
    refine jr_bipush K dX2_part_12 (v := (nI 57)) (by decide) ?_
    refine jr_icmp_gt K (tgt := 37) dX2_part_14 (by decide) ?_ ?_
    · exact jr_weak (hk37) ⟨rfl, rfl, trivial⟩
    · refine jr_aload_n K dX2_part_17 rfl ?_
      refine jr_dup K dX2_part_18 rfl ?_
      refine jr_getI K gf_X2_199 dX2_part_19 (fun v19 => ?_)
      refine jr_aload_n K dX2_part_22 rfl ?_
      refine jr_iconst K dX2_part_23 (v := (nI 0)) (by decide) ?_
      refine jr_sipush K dX2_part_24 (v := (nI 999)) (by decide) ?_
      refine jrx_calli ⟨Nat.zero_le _, Nat.zero_le _⟩ (jrunx_V (As := [.int (nI 0), .int (nI 999)]) (st := [.int v19, .ref p1]) (ci := 2) K (metX2_number K.hG this (nI 0) (nI 999) Ex _) mtX2_number mvX2_number q919 rfl rfl rfl (Nat.le_of_ble_eq_true rfl) (by decide) ⟨Nat.zero_le _, Nat.zero_le _⟩ dX2_part_27) (fun x q => hEx.1 _ _ _ _ x q (fun _ h => nomatch h)) (fun v27 => ?_)
      refine jr_iadd K dX2_part_30 ?_
      refine jr_put K pf_X2_199 dX2_part_31 rfl rfl ?_
      refine jr_goto K (tgt := 50) dX2_part_34 (by decide) ?_
      exact hret _ _ _ _ dX2_part_50
theorem metX2_part (hG : jG l D S0 A0) {sK : Nat → Nat} (hS : jSt S0 sK) (this : Nat) (p1 : Nat) (Ex : Nat → Nat → JP) (Qj : JP) : vx_Met l yX2_part (ws_ yX2_part cX2_part 3 none) (jrm 18 0 0) (va_Pc [.ref this, .ref p1] (jB D S0 (JX2_part sK this p1 Ex Qj))) (va_Qv Qj (fun σ t => jRep D S0.heap.size σ t.heap) (jA S0)) (jXC D S0 Ex) 0 0 (jA S0) :=
  jx_start hG (by decide) (by decide) (Nat.le_of_ble_eq_true rfl) rfl fun p e s m below meth c K hr hEx => wX2_part K _ _ sK this p1 Ex Qj hS hEx (fun _ _ _ _ d => jr_xret jx_mq (jr_vret K hr d))
theorem wX2_sum_13 (K : JK p l R s m args meth c D S0 A0 2 cX2_sum "MoveNotes$Reader" 19) (sK : Nat → Nat) (bc : Nat) (bs : Nat) (this : Nat) (Ex : Nat → Nat → JP) (Qj : Nat → JP) (v0 : Nat) (mc4 : Nat) (ms4 : Nat) (hS : jSt S0 sK) (hEx : jThr p l e R s m args below meth c Q D S0 2 cX2_sum "MoveNotes$Reader" [] Ex) (hret : jRetA p l e R s m args below meth c Q D S0 2 cX2_sum Qj) : ∀ (n : Nat), JR p l e R s m args below meth c Q D S0 2 ((bc - 1) - mc4) ((bs - 2) - ms4) (jit (FX2_sum_13 sK this Ex Qj v0) jbot n) 13 [some (.ref this), some (.ref v0)] [] := by
  intro n
  induction n with
  | zero =>
    exact JR.bot
  | succ n ih13 =>
    show JR p l e R s m args below meth c Q D S0 2 ((bc - 1) - mc4) ((bs - 2) - ms4) (FX2_sum_13 sK this Ex Qj v0 (jit (FX2_sum_13 sK this Ex Qj v0) jbot n)) 13 [some (.ref this), some (.ref v0)] []
    generalize jit (FX2_sum_13 sK this Ex Qj v0) jbot n = rec13 at ih13 ⊢
    unfold FX2_sum_13
    refine jr_aload_n K dX2_sum_13 rfl ?_
    refine jr_calli0 (jrun_V (As := []) (st := []) (ci := 2) K (metX2_sign K.hG this _) mtX2_sign mvX2_sign q852 rfl rfl rfl (Nat.le_of_ble_eq_true rfl) (by decide) ⟨Nat.zero_le _, Nat.zero_le _⟩ dX2_sum_14) (fun v14 => ?_)
    refine jr_bipush K dX2_sum_17 (v := (nI 43)) (by decide) ?_
    refine jr_icmp_ne K (tgt := 40) dX2_sum_19 (by decide) ?_ ?_
    · refine jr_aload_n K dX2_sum_40 rfl ?_
      exact hret _ _ _ _ _ dX2_sum_41
    · refine jr_aload_n K dX2_sum_22 rfl ?_
      refine jr_dup K dX2_sum_23 rfl ?_
      refine jr_getI K gf_X2_66 dX2_sum_24 (fun v24 => ?_)
      refine jr_iconst K dX2_sum_27 (v := (nI 1)) (by decide) ?_
      refine jr_iadd K dX2_sum_28 ?_
      refine jr_put K pf_X2_66 dX2_sum_29 rfl rfl ?_
      refine jr_aload_n K dX2_sum_32 rfl ?_
      refine jr_aload_n K dX2_sum_33 rfl ?_
      refine jrx_callv ⟨Nat.zero_le _, Nat.zero_le _⟩ (jrunx_V (As := [.ref v0]) (st := []) (ci := 2) K (metX2_part K.hG hS this v0 Ex _) mtX2_part mvX2_part q1012 rfl rfl rfl (Nat.le_of_ble_eq_true rfl) (by decide) ⟨Nat.zero_le _, Nat.zero_le _⟩ dX2_sum_34) (fun x q => hEx.1 _ _ _ _ x q (fun _ h => nomatch h)) ?_
      refine jr_goto K (tgt := 13) dX2_sum_37 (by decide) ?_
      exact jr_weak (ih13) ⟨rfl, rfl, trivial⟩
theorem wX2_sum (K : JK p l R s m args meth c D S0 A0 2 cX2_sum "MoveNotes$Reader" 19) (sK : Nat → Nat) (bc : Nat) (bs : Nat) (this : Nat) (Ex : Nat → Nat → JP) (Qj : Nat → JP) (hS : jSt S0 sK) (hEx : jThr p l e R s m args below meth c Q D S0 2 cX2_sum "MoveNotes$Reader" [] Ex) (hret : jRetA p l e R s m args below meth c Q D S0 2 cX2_sum Qj) : JR p l e R s m args below meth c Q D S0 2 bc bs (JX2_sum sK bc bs this Ex Qj) 0 [some (.ref this), none] [] := by
  unfold JX2_sum
  refine jr_new K in_X19 rfl tyX19_ok dfo19 q997 q998 q124 dX2_sum_0 (fun v0 => ?_)
  refine jr_dup K dX2_sum_3 rfl ?_
  refine jr_bud (fun mc4 ms4 hmc4 hms4 => ?_)
  refine jr_callv ⟨hmc4, hms4⟩ (jrun_IN (As := []) (st := [.ref v0]) K (metX19_init K.hG mc4 ms4 v0 _) mtX19_init q1000 rfl q999 rfl rfl (Nat.le_of_ble_eq_true rfl) (by decide) ⟨hmc4, hms4⟩ dX2_sum_4) ?_
  refine jr_astore_n K (L' := [some (.ref this), some (.ref v0)]) dX2_sum_7 (by decide) rfl rfl ?_
  refine jr_aload_n K dX2_sum_8 rfl ?_
  refine jr_aload_n K dX2_sum_9 rfl ?_
  refine jrx_callv ⟨Nat.zero_le _, Nat.zero_le _⟩ (jrunx_V (As := [.ref v0]) (st := []) (ci := 2) K (metX2_part K.hG hS this v0 Ex _) mtX2_part mvX2_part q1012 rfl rfl rfl (Nat.le_of_ble_eq_true rfl) (by decide) ⟨Nat.zero_le _, Nat.zero_le _⟩ dX2_sum_10) (fun x q => hEx.1 _ _ _ _ x q (fun _ h => nomatch h)) ?_
  refine jr_ex (fun n13 => ?_)
  refine jr_weak (wX2_sum_13 K sK bc bs this Ex Qj v0 mc4 ms4 hS hEx hret n13) ⟨rfl, rfl, trivial⟩
theorem metX2_sum (hG : jG l D S0 A0) {sK : Nat → Nat} (hS : jSt S0 sK) (bc : Nat) (bs : Nat) (this : Nat) (Ex : Nat → Nat → JP) (Qj : Nat → JP) : vx_Met l yX2_sum (ws_ yX2_sum cX2_sum 2 (some (.object "MoveNotes$Sum"))) (jrm 19 bc bs) (va_Pc [.ref this] (jB D S0 (JX2_sum sK bc bs this Ex Qj))) (jQr Qj D S0) (jXC D S0 Ex) bc bs (jA S0) :=
  jx_start hG (by decide) (by decide) (Nat.le_of_ble_eq_true rfl) rfl fun p e s m below meth c K hr hEx => wX2_sum K sK bc bs this Ex Qj hS hEx (fun _ _ _ _ _ d => jr_xret jx_mq (jr_aret K hr (Or.inl ⟨_, rfl⟩) d))
theorem wX20_init (K : JK p l R s m args meth c D S0 A0 3 cX20_init "MoveNotes$Less" 12) (hn : meth.name = "<init>") (bc bs : Nat) (this : Nat) (p1 : Nat) (p2 : Nat) (Qj : JP) (hret : jRetV p l e R s m args below meth c Q D S0 3 cX20_init Qj) : JR p l e R s m args below meth c Q D S0 3 bc bs (JX20_init this p1 p2 Qj) 0 [some (.ref this), some (.ref p1), some (.ref p2)] [] := by
  unfold JX20_init
  refine jr_aload_n K dX20_init_0 rfl ?_
  refine jr_objInit K q1021 dX20_init_1 (by decide) (Nat.le_of_ble_eq_true rfl) ?_
  refine jr_aload_n K dX20_init_4 rfl ?_
  refine jr_aload_n K dX20_init_5 rfl ?_
  refine jr_put K (pf_X20_7 hn) dX20_init_6 rfl rfl ?_
  refine jr_aload_n K dX20_init_9 rfl ?_
  refine jr_aload_n K dX20_init_10 rfl ?_
  refine jr_put K (pf_X20_13 hn) dX20_init_11 rfl rfl ?_
  exact hret _ _ _ _ dX20_init_14
theorem metX20_init (hG : jG l D S0 A0) (this : Nat) (p1 : Nat) (p2 : Nat) (Qj : JP) : Met l yX20_init (ws_ yX20_init cX20_init 3 none) (jrm 12 0 0) (va_Pc [.ref this, .ref p1, .ref p2] (jB D S0 (JX20_init this p1 p2 Qj))) (va_Qv Qj (fun σ t => jRep D S0.heap.size σ t.heap) (jA S0)) 0 0 (jA S0) :=
  jr_start hG (by decide) (Nat.le_of_ble_eq_true rfl) rfl fun p e s m below meth c K hr hn => wX20_init K hn _ _ this p1 p2 Qj (fun _ _ _ _ d => jr_vret K hr d)
theorem wX2_tag (K : JK p l R s m args meth c D S0 A0 4 cX2_tag "MoveNotes$Reader" 20) (sK : Nat → Nat) (bc : Nat) (bs : Nat) (this : Nat) (Ex : Nat → Nat → JP) (Qj : Nat → JP) (hS : jSt S0 sK) (hEx : jThr p l e R s m args below meth c Q D S0 4 cX2_tag "MoveNotes$Reader" [] Ex) (hret : jRetA p l e R s m args below meth c Q D S0 4 cX2_tag Qj) : JR p l e R s m args below meth c Q D S0 4 bc bs (JX2_tag sK bc bs this Ex Qj) 0 [some (.ref this), none, none, none] [] := by
  unfold JX2_tag
  refine jr_aload_n K dX2_tag_0 rfl ?_
  refine jr_ldcS K hS (14, 177, "takes") (by decide) dX2_tag_1 ?_
  refine jr_calli0 (jrun_V (As := [.ref (sK 14)]) (st := []) (ci := 2) K (metX2_takes K.hG hS this (sK 14) _) mtX2_takes mvX2_takes q865 rfl rfl rfl (Nat.le_of_ble_eq_true rfl) (by decide) ⟨Nat.zero_le _, Nat.zero_le _⟩ dX2_tag_3) (fun v3 => ?_)
  refine jr_if_eq K (tgt := 18) dX2_tag_6 (by decide) ?_ ?_
  · refine jr_aload_n K dX2_tag_18 rfl ?_
    refine jr_ldcS K hS (15, 181, "safe") (by decide) dX2_tag_19 ?_
    refine jr_calli0 (jrun_V (As := [.ref (sK 15)]) (st := []) (ci := 2) K (metX2_takes K.hG hS this (sK 15) _) mtX2_takes mvX2_takes q865 rfl rfl rfl (Nat.le_of_ble_eq_true rfl) (by decide) ⟨Nat.zero_le _, Nat.zero_le _⟩ dX2_tag_21) (fun v21 => ?_)
    refine jr_if_eq K (tgt := 36) dX2_tag_24 (by decide) ?_ ?_
    · refine jr_aload_n K dX2_tag_36 rfl ?_
      refine jr_bud (fun mc37 ms37 hmc37 hms37 => ?_)
      refine jrx_callr ⟨hmc37, hms37⟩ (jrunx_V (As := []) (st := []) (ci := 2) K (metX2_sum K.hG hS mc37 ms37 this Ex _) mtX2_sum mvX2_sum q993 rfl rfl rfl (Nat.le_of_ble_eq_true rfl) (by decide) ⟨hmc37, hms37⟩ dX2_tag_37) (fun x q => hEx.1 _ _ _ _ x q (fun _ h => nomatch h)) (fun v37 => ?_)
      refine jr_astore_n K (L' := [some (.ref this), some (.ref v37), none, none]) dX2_tag_40 (by decide) rfl rfl ?_
      refine jr_aload_n K dX2_tag_41 rfl ?_
      refine jr_calli0 (jrun_V (As := []) (st := []) (ci := 2) K (metX2_sign K.hG this _) mtX2_sign mvX2_sign q852 rfl rfl rfl (Nat.le_of_ble_eq_true rfl) (by decide) ⟨Nat.zero_le _, Nat.zero_le _⟩ dX2_tag_42) (fun v42 => ?_)
      refine jr_istore_n K (L' := [some (.ref this), some (.ref v37), some (.int v42), none]) dX2_tag_45 (by decide) rfl rfl ?_
      refine jr_iload_n K dX2_tag_46 rfl ?_
      refine jr_bipush K dX2_tag_47 (v := (nI 60)) (by decide) ?_
      refine jr_join (fun (k66 : JP) => JR p l e R s m args below meth c Q D S0 4 (bc - mc37) (bs - ms37) k66 66 [some (.ref this), some (.ref v37), some (.int v42), none] []) ?_ (fun k66 hk66 => ?_)
      · refine jr_aload_n K dX2_tag_66 rfl ?_
        refine jr_dup K dX2_tag_67 rfl ?_
        refine jr_getI K gf_X2_66 dX2_tag_68 (fun v68 => ?_)
        refine jr_iconst K dX2_tag_71 (v := (nI 1)) (by decide) ?_
        refine jr_iadd K dX2_tag_72 ?_
        refine jr_put K pf_X2_66 dX2_tag_73 rfl rfl ?_
        refine jr_aload_n K dX2_tag_76 rfl ?_
        refine jr_bud (fun mc77 ms77 hmc77 hms77 => ?_)
        refine jrx_callr ⟨hmc77, hms77⟩ (jrunx_V (As := []) (st := []) (ci := 2) K (metX2_sum K.hG hS mc77 ms77 this Ex _) mtX2_sum mvX2_sum q993 rfl rfl rfl (Nat.le_of_ble_eq_true rfl) (by decide) ⟨hmc77, hms77⟩ dX2_tag_77) (fun x q => hEx.1 _ _ _ _ x q (fun _ h => nomatch h)) (fun v77 => ?_)
        refine jr_astore_n K (L' := [some (.ref this), some (.ref v37), some (.int v42), some (.ref v77)]) dX2_tag_80 (by decide) rfl rfl ?_
        refine jr_iload_n K dX2_tag_81 rfl ?_
        refine jr_bipush K dX2_tag_82 (v := (nI 60)) (by decide) ?_
        refine jr_icmp_ne K (tgt := 99) dX2_tag_84 (by decide) ?_ ?_
        · refine jr_new K in_X20 rfl tyX20_ok dfo20 q1016 q1017 q125 dX2_tag_99 (fun v99 => ?_)
          refine jr_dup K dX2_tag_102 rfl ?_
          refine jr_aload_n K dX2_tag_103 rfl ?_
          refine jr_aload_n K dX2_tag_104 rfl ?_
          refine jr_callv0 (jrun_I (As := [.ref v77, .ref v37]) (st := [.ref v99]) K (metX20_init K.hG v99 v77 v37 _) mtX20_init q1019 rfl q1018 rfl rfl (Nat.le_of_ble_eq_true rfl) (by decide) ⟨Nat.zero_le _, Nat.zero_le _⟩ dX2_tag_105) ?_
          exact hret _ _ _ _ _ dX2_tag_108
        · refine jr_new K in_X20 rfl tyX20_ok dfo20 q1016 q1017 q125 dX2_tag_87 (fun v87 => ?_)
          refine jr_dup K dX2_tag_90 rfl ?_
          refine jr_aload_n K dX2_tag_91 rfl ?_
          refine jr_aload_n K dX2_tag_92 rfl ?_
          refine jr_callv0 (jrun_I (As := [.ref v37, .ref v77]) (st := [.ref v87]) K (metX20_init K.hG v87 v37 v77 _) mtX20_init q1019 rfl q1018 rfl rfl (Nat.le_of_ble_eq_true rfl) (by decide) ⟨Nat.zero_le _, Nat.zero_le _⟩ dX2_tag_93) ?_
          refine jr_goto K (tgt := 108) dX2_tag_96 (by decide) ?_
          exact hret _ _ _ _ _ dX2_tag_108
      refine jr_icmp_eq K (tgt := 66) dX2_tag_49 (by decide) ?_ ?_
      · exact jr_weak (hk66) ⟨rfl, rfl, rfl, trivial⟩
      · refine jr_iload_n K dX2_tag_52 rfl ?_
        refine jr_bipush K dX2_tag_53 (v := (nI 62)) (by decide) ?_
        refine jr_icmp_eq K (tgt := 66) dX2_tag_55 (by decide) ?_ ?_
        · exact jr_weak (hk66) ⟨rfl, rfl, rfl, trivial⟩
        · refine jr_aload_n K dX2_tag_58 rfl ?_
          refine jr_aload_n K dX2_tag_59 rfl ?_
          refine jr_getI K gf_X2_66 dX2_tag_60 (fun v60 => ?_)
          refine jrx_callv ⟨Nat.zero_le _, Nat.zero_le _⟩ (jrunx_V (As := [.int v60]) (st := []) (ci := 2) K (metX2_fail K.hG this v60 Ex _) mtX2_fail mvX2_fail q856 rfl rfl rfl (Nat.le_of_ble_eq_true rfl) (by decide) ⟨Nat.zero_le _, Nat.zero_le _⟩ dX2_tag_63) (fun x q => hEx.1 _ _ _ _ x q (fun _ h => nomatch h)) ?_
          exact jr_weak (hk66) ⟨rfl, rfl, rfl, trivial⟩
    · refine jr_new K in_X18 rfl tyX18_ok dfo18 q982 q983 q123 dX2_tag_27 (fun v27 => ?_)
      refine jr_dup K dX2_tag_30 rfl ?_
      refine jr_iconst K dX2_tag_31 (v := (nI 5)) (by decide) ?_
      refine jr_callv0 (jrun_I (As := [.int (nI 5)]) (st := [.ref v27]) K (metX18_init K.hG v27 (nI 5) _) mtX18_init q985 rfl q984 rfl rfl (Nat.le_of_ble_eq_true rfl) (by decide) ⟨Nat.zero_le _, Nat.zero_le _⟩ dX2_tag_32) ?_
      exact hret _ _ _ _ _ dX2_tag_35
  · refine jr_new K in_X18 rfl tyX18_ok dfo18 q982 q983 q123 dX2_tag_9 (fun v9 => ?_)
    refine jr_dup K dX2_tag_12 rfl ?_
    refine jr_iconst K dX2_tag_13 (v := (nI 4)) (by decide) ?_
    refine jr_callv0 (jrun_I (As := [.int (nI 4)]) (st := [.ref v9]) K (metX18_init K.hG v9 (nI 4) _) mtX18_init q985 rfl q984 rfl rfl (Nat.le_of_ble_eq_true rfl) (by decide) ⟨Nat.zero_le _, Nat.zero_le _⟩ dX2_tag_14) ?_
    exact hret _ _ _ _ _ dX2_tag_17
theorem metX2_tag (hG : jG l D S0 A0) {sK : Nat → Nat} (hS : jSt S0 sK) (bc : Nat) (bs : Nat) (this : Nat) (Ex : Nat → Nat → JP) (Qj : Nat → JP) : vx_Met l yX2_tag (ws_ yX2_tag cX2_tag 4 (some (.object "MoveNotes$Cond"))) (jrm 20 bc bs) (va_Pc [.ref this] (jB D S0 (JX2_tag sK bc bs this Ex Qj))) (jQr Qj D S0) (jXC D S0 Ex) bc bs (jA S0) :=
  jx_start hG (by decide) (by decide) (Nat.le_of_ble_eq_true rfl) rfl fun p e s m below meth c K hr hEx => wX2_tag K sK bc bs this Ex Qj hS hEx (fun _ _ _ _ _ d => jr_xret jx_mq (jr_aret K hr (Or.inl ⟨_, rfl⟩) d))
theorem wX21_init (K : JK p l R s m args meth c D S0 A0 2 cX21_init "MoveNotes$Not" 12) (hn : meth.name = "<init>") (bc bs : Nat) (this : Nat) (p1 : Nat) (Qj : JP) (hret : jRetV p l e R s m args below meth c Q D S0 2 cX21_init Qj) : JR p l e R s m args below meth c Q D S0 2 bc bs (JX21_init this p1 Qj) 0 [some (.ref this), some (.ref p1)] [] := by
  unfold JX21_init
  refine jr_aload_n K dX21_init_0 rfl ?_
  refine jr_objInit K q1034 dX21_init_1 (by decide) (Nat.le_of_ble_eq_true rfl) ?_
  refine jr_aload_n K dX21_init_4 rfl ?_
  refine jr_aload_n K dX21_init_5 rfl ?_
  refine jr_put K (pf_X21_7 hn) dX21_init_6 rfl rfl ?_
  exact hret _ _ _ _ dX21_init_9
theorem metX21_init (hG : jG l D S0 A0) (this : Nat) (p1 : Nat) (Qj : JP) : Met l yX21_init (ws_ yX21_init cX21_init 2 none) (jrm 12 0 0) (va_Pc [.ref this, .ref p1] (jB D S0 (JX21_init this p1 Qj))) (va_Qv Qj (fun σ t => jRep D S0.heap.size σ t.heap) (jA S0)) 0 0 (jA S0) :=
  jr_start hG (by decide) (Nat.le_of_ble_eq_true rfl) rfl fun p e s m below meth c K hr hn => wX21_init K hn _ _ this p1 Qj (fun _ _ _ _ d => jr_vret K hr d)
theorem wX17_init (K : JK p l R s m args meth c D S0 A0 3 cX17_init "MoveNotes$Chain" 12) (hn : meth.name = "<init>") (bc bs : Nat) (this : Nat) (p1 : Nat) (p2 : Int32) (Qj : JP) (hret : jRetV p l e R s m args below meth c Q D S0 3 cX17_init Qj) : JR p l e R s m args below meth c Q D S0 3 bc bs (JX17_init this p1 p2 Qj) 0 [some (.ref this), some (.ref p1), some (.int p2)] [] := by
  unfold JX17_init
  refine jr_aload_n K dX17_init_0 rfl ?_
  refine jr_objInit K q1042 dX17_init_1 (by decide) (Nat.le_of_ble_eq_true rfl) ?_
  refine jr_aload_n K dX17_init_4 rfl ?_
  refine jr_aload_n K dX17_init_5 rfl ?_
  refine jr_put K (pf_X17_7 hn) dX17_init_6 rfl rfl ?_
  refine jr_aload_n K dX17_init_9 rfl ?_
  refine jr_iload_n K dX17_init_10 rfl ?_
  refine jr_putZ K (pf_X17_13 hn) dX17_init_11 ?_
  exact hret _ _ _ _ dX17_init_14
theorem metX17_init (hG : jG l D S0 A0) (this : Nat) (p1 : Nat) (p2 : Int32) (Qj : JP) : Met l yX17_init (ws_ yX17_init cX17_init 3 none) (jrm 12 0 0) (va_Pc [.ref this, .ref p1, .int p2] (jB D S0 (JX17_init this p1 p2 Qj))) (va_Qv Qj (fun σ t => jRep D S0.heap.size σ t.heap) (jA S0)) 0 0 (jA S0) :=
  jr_start hG (by decide) (Nat.le_of_ble_eq_true rfl) rfl fun p e s m below meth c K hr hn => wX17_init K hn _ _ this p1 p2 Qj (fun _ _ _ _ d => jr_vret K hr d)
theorem wX2_atom (nf : Nat) (K : JK p l R s m args meth c D S0 A0 5 cX2_atom "MoveNotes$Reader" (20 + (nf + 1))) (sK : Nat → Nat) (rJX2_atom : Nat → Nat → Nat → (Nat → Nat → JP) → (Nat → JP) → JP) (rJX2_row : Nat → Nat → Nat → Int32 → (Nat → Nat → JP) → (Nat → JP) → JP) (bc : Nat) (bs : Nat) (this : Nat) (Ex : Nat → Nat → JP) (Qj : Nat → JP) (hS : jSt S0 sK) (ihJX2_atom : ∀ (bc : Nat) (bs : Nat) (this : Nat) (Ex : (Nat → Nat → JP)) (Qj : (Nat → JP)), vx_Met l yX2_atom (ws_ yX2_atom cX2_atom 5 (some (.object "MoveNotes$Cond"))) (jrm (20 + nf) bc bs) (va_Pc [.ref this] (jB D S0 (rJX2_atom bc bs this Ex Qj))) (jQr Qj D S0) (jXC D S0 Ex) bc bs (jA S0)) (ihJX2_row : ∀ (bc : Nat) (bs : Nat) (this : Nat) (p1 : Int32) (Ex : (Nat → Nat → JP)) (Qj : (Nat → JP)), vx_Met l yX2_row (ws_ yX2_row cX2_row 4 (some (.object "MoveNotes$Cond"))) (jrm (20 + nf) bc bs) (va_Pc [.ref this, .int p1] (jB D S0 (rJX2_row bc bs this p1 Ex Qj))) (jQr Qj D S0) (jXC D S0 Ex) bc bs (jA S0)) (hEx : jThr p l e R s m args below meth c Q D S0 5 cX2_atom "MoveNotes$Reader" [] Ex) (hret : jRetA p l e R s m args below meth c Q D S0 5 cX2_atom Qj) : JR p l e R s m args below meth c Q D S0 5 bc bs (JX2_atomF sK rJX2_atom rJX2_row bc bs this Ex Qj) 0 [some (.ref this), none, none, none, none] [] := by
  unfold JX2_atomF
  refine jr_aload_n K dX2_atom_0 rfl ?_
  refine jr_calli0 (jrun_V (As := []) (st := []) (ci := 2) K (metX2_sign K.hG this _) mtX2_sign mvX2_sign q852 rfl rfl rfl (Nat.le_of_ble_eq_true rfl) (by omega) ⟨Nat.zero_le _, Nat.zero_le _⟩ dX2_atom_1) (fun v1 => ?_)
  refine jr_istore_n K (L' := [some (.ref this), some (.int v1), none, none, none]) dX2_atom_4 (by decide) rfl rfl ?_
  refine jr_aload_n K dX2_atom_5 rfl ?_
  refine jr_getI K gf_X2_66 dX2_atom_6 (fun v6 => ?_)
  refine jr_istore_n K (L' := [some (.ref this), some (.int v1), some (.int v6), none, none]) dX2_atom_9 (by decide) rfl rfl ?_
  refine jr_aload_n K dX2_atom_10 rfl ?_
  refine jr_ldcS K hS (13, 167, "not") (by decide) dX2_atom_11 ?_
  refine jr_calli0 (jrun_V (As := [.ref (sK 13)]) (st := []) (ci := 2) K (metX2_takes K.hG hS this (sK 13) _) mtX2_takes mvX2_takes q865 rfl rfl rfl (Nat.le_of_ble_eq_true rfl) (by omega) ⟨Nat.zero_le _, Nat.zero_le _⟩ dX2_atom_13) (fun v13 => ?_)
  refine jr_istore_n K (L' := [some (.ref this), some (.int v1), some (.int v6), some (.int v13), none]) dX2_atom_16 (by decide) rfl rfl ?_
  refine jr_iload_n K dX2_atom_17 rfl ?_
  refine jr_join (fun (k32 : JP) => JR p l e R s m args below meth c Q D S0 5 bc bs k32 32 [some (.ref this), none, some (.int v6), some (.int v13), none] []) ?_ (fun k32 hk32 => ?_)
  · refine jr_aload_n K dX2_atom_32 rfl ?_
    refine jr_getI K gf_X2_87 dX2_atom_33 (fun v33 => ?_)
    refine jr_bipush K dX2_atom_36 (v := (nI 6)) (by decide) ?_
    refine jr_join (fun (k46 : JP) => JR p l e R s m args below meth c Q D S0 5 bc bs k46 46 [some (.ref this), none, none, some (.int v13), none] []) ?_ (fun k46 hk46 => ?_)
    · refine jr_aload_n K dX2_atom_46 rfl ?_
      refine jr_dup K dX2_atom_47 rfl ?_
      refine jr_getI K gf_X2_87 dX2_atom_48 (fun v48 => ?_)
      refine jr_iconst K dX2_atom_51 (v := (nI 1)) (by decide) ?_
      refine jr_iadd K dX2_atom_52 ?_
      refine jr_put K pf_X2_87 dX2_atom_53 rfl rfl ?_
      refine jr_iload_n K dX2_atom_56 rfl ?_
      refine jr_join (fun (k120 : Nat → Nat → Nat → JP) => ∀ (x4_120 : Nat) (bc_120 : Nat) (bs_120 : Nat), JR p l e R s m args below meth c Q D S0 5 bc_120 bs_120 (k120 x4_120 bc_120 bs_120) 120 [some (.ref this), none, none, none, some (.ref x4_120)] []) ?_ (fun k120 hk120 => ?_)
      · intro x4_120 bc_120 bs_120
        refine jr_aload_n K dX2_atom_120 rfl ?_
        refine jr_dup K dX2_atom_121 rfl ?_
        refine jr_getI K gf_X2_87 dX2_atom_122 (fun v122 => ?_)
        refine jr_iconst K dX2_atom_125 (v := (nI 1)) (by decide) ?_
        refine jr_isub K dX2_atom_126 ?_
        refine jr_put K pf_X2_87 dX2_atom_127 rfl rfl ?_
        refine jr_aload K dX2_atom_130 rfl ?_
        exact hret _ _ _ _ _ dX2_atom_132
      refine jr_if_eq K (tgt := 76) dX2_atom_57 (by decide) ?_ ?_
      · refine jr_aload_n K dX2_atom_76 rfl ?_
        refine jr_dup K dX2_atom_77 rfl ?_
        refine jr_getI K gf_X2_66 dX2_atom_78 (fun v78 => ?_)
        refine jr_iconst K dX2_atom_81 (v := (nI 1)) (by decide) ?_
        refine jr_iadd K dX2_atom_82 ?_
        refine jr_put K pf_X2_66 dX2_atom_83 rfl rfl ?_
        refine jr_aload_n K dX2_atom_86 rfl ?_
        refine jr_iconst K dX2_atom_87 (v := (nI 0)) (by decide) ?_
        refine jr_bud (fun mc88 ms88 hmc88 hms88 => ?_)
        refine jrx_callr ⟨hmc88, hms88⟩ (jrunx_V (As := [.int (nI 0)]) (st := []) (ci := 2) K (ihJX2_row mc88 ms88 this (nI 0) Ex _) mtX2_row mvX2_row q966 rfl rfl rfl (Nat.le_of_ble_eq_true rfl) (by omega) ⟨hmc88, hms88⟩ dX2_atom_88) (fun x q => hEx.1 _ _ _ _ x q (fun _ h => nomatch h)) (fun v88 => ?_)
        refine jr_astore K (L' := [some (.ref this), none, none, some (.int v13), some (.ref v88)]) dX2_atom_91 (by decide) rfl rfl ?_
        refine jr_aload_n K dX2_atom_93 rfl ?_
        refine jr_calli0 (jrun_V (As := []) (st := []) (ci := 2) K (metX2_sign K.hG this _) mtX2_sign mvX2_sign q852 rfl rfl rfl (Nat.le_of_ble_eq_true rfl) (by omega) ⟨Nat.zero_le _, Nat.zero_le _⟩ dX2_atom_94) (fun v94 => ?_)
        refine jr_bipush K dX2_atom_97 (v := (nI 41)) (by decide) ?_
        refine jr_join (fun (k110 : JP) => JR p l e R s m args below meth c Q D S0 5 (bc - mc88) (bs - ms88) k110 110 [some (.ref this), none, none, none, some (.ref v88)] []) ?_ (fun k110 hk110 => ?_)
        · refine jr_aload_n K dX2_atom_110 rfl ?_
          refine jr_dup K dX2_atom_111 rfl ?_
          refine jr_getI K gf_X2_66 dX2_atom_112 (fun v112 => ?_)
          refine jr_iconst K dX2_atom_115 (v := (nI 1)) (by decide) ?_
          refine jr_iadd K dX2_atom_116 ?_
          refine jr_put K pf_X2_66 dX2_atom_117 rfl rfl ?_
          exact jr_weak (hk120 v88 (bc - mc88) (bs - ms88)) ⟨rfl, rfl, trivial⟩
        refine jr_icmp_eq K (tgt := 110) dX2_atom_99 (by decide) ?_ ?_
        · exact jr_weak (hk110) ⟨rfl, rfl, trivial⟩
        · refine jr_aload_n K dX2_atom_102 rfl ?_
          refine jr_aload_n K dX2_atom_103 rfl ?_
          refine jr_getI K gf_X2_66 dX2_atom_104 (fun v104 => ?_)
          refine jrx_callv ⟨Nat.zero_le _, Nat.zero_le _⟩ (jrunx_V (As := [.int v104]) (st := []) (ci := 2) K (metX2_fail K.hG this v104 Ex _) mtX2_fail mvX2_fail q856 rfl rfl rfl (Nat.le_of_ble_eq_true rfl) (by omega) ⟨Nat.zero_le _, Nat.zero_le _⟩ dX2_atom_107) (fun x q => hEx.1 _ _ _ _ x q (fun _ h => nomatch h)) ?_
          exact jr_weak (hk110) ⟨rfl, rfl, trivial⟩
      · refine jr_new K in_X21 rfl tyX21_ok dfo21 q1029 q1030 q126 dX2_atom_60 (fun v60 => ?_)
        refine jr_dup K dX2_atom_63 rfl ?_
        refine jr_aload_n K dX2_atom_64 rfl ?_
        refine jr_bud (fun mc65 ms65 hmc65 hms65 => ?_)
        refine jrx_callr ⟨hmc65, hms65⟩ (jrunx_V (As := []) (st := [.ref v60, .ref v60]) (ci := 2) K (ihJX2_atom mc65 ms65 this Ex _) mtX2_atom mvX2_atom q972 rfl rfl rfl (Nat.le_of_ble_eq_true rfl) (by omega) ⟨hmc65, hms65⟩ dX2_atom_65) (fun x q => hEx.1 _ _ _ _ x q (fun _ h => nomatch h)) (fun v65 => ?_)
        refine jr_callv0 (jrun_I (As := [.ref v65]) (st := [.ref v60]) K (metX21_init K.hG v60 v65 _) mtX21_init q1032 rfl q1031 rfl rfl (Nat.le_of_ble_eq_true rfl) (by omega) ⟨Nat.zero_le _, Nat.zero_le _⟩ dX2_atom_68) ?_
        refine jr_astore K (L' := [some (.ref this), none, none, some (.int v13), some (.ref v60)]) dX2_atom_71 (by decide) rfl rfl ?_
        refine jr_goto K (tgt := 120) dX2_atom_73 (by decide) ?_
        exact jr_weak (hk120 v60 ((bc - 1) - mc65) ((bs - 1) - ms65)) ⟨rfl, rfl, trivial⟩
    refine jr_icmp_ne K (tgt := 46) dX2_atom_38 (by decide) ?_ ?_
    · exact jr_weak (hk46) ⟨rfl, rfl, trivial⟩
    · refine jr_aload_n K dX2_atom_41 rfl ?_
      refine jr_iload_n K dX2_atom_42 rfl ?_
      refine jrx_callv ⟨Nat.zero_le _, Nat.zero_le _⟩ (jrunx_V (As := [.int v6]) (st := []) (ci := 2) K (metX2_fail K.hG this v6 Ex _) mtX2_fail mvX2_fail q856 rfl rfl rfl (Nat.le_of_ble_eq_true rfl) (by omega) ⟨Nat.zero_le _, Nat.zero_le _⟩ dX2_atom_43) (fun x q => hEx.1 _ _ _ _ x q (fun _ h => nomatch h)) ?_
      exact jr_weak (hk46) ⟨rfl, rfl, trivial⟩
  refine jr_if_ne K (tgt := 32) dX2_atom_18 (by decide) ?_ ?_
  · exact jr_weak (hk32) ⟨rfl, rfl, rfl, trivial⟩
  · refine jr_iload_n K dX2_atom_21 rfl ?_
    refine jr_bipush K dX2_atom_22 (v := (nI 40)) (by decide) ?_
    refine jr_icmp_eq K (tgt := 32) dX2_atom_24 (by decide) ?_ ?_
    · exact jr_weak (hk32) ⟨rfl, rfl, rfl, trivial⟩
    · refine jr_aload_n K dX2_atom_27 rfl ?_
      refine jr_bud (fun mc28 ms28 hmc28 hms28 => ?_)
      refine jrx_callr ⟨hmc28, hms28⟩ (jrunx_V (As := []) (st := []) (ci := 2) K (metX2_tag K.hG hS mc28 ms28 this Ex _) mtX2_tag mvX2_tag q977 rfl rfl rfl (Nat.le_of_ble_eq_true rfl) (by omega) ⟨hmc28, hms28⟩ dX2_atom_28) (fun x q => hEx.1 _ _ _ _ x q (fun _ h => nomatch h)) (fun v28 => ?_)
      exact hret _ _ _ _ _ dX2_atom_31
theorem wX2_row_27 (nf : Nat) (K : JK p l R s m args meth c D S0 A0 4 cX2_row "MoveNotes$Reader" (20 + (nf + 1))) (sK : Nat → Nat) (rJX2_atom : Nat → Nat → Nat → (Nat → Nat → JP) → (Nat → JP) → JP) (rJX2_row : Nat → Nat → Nat → Int32 → (Nat → Nat → JP) → (Nat → JP) → JP) (bc : Nat) (bs : Nat) (this : Nat) (p1 : Int32) (Ex : Nat → Nat → JP) (Qj : Nat → JP) (v0 : Nat) (hS : jSt S0 sK) (ihJX2_atom : ∀ (bc : Nat) (bs : Nat) (this : Nat) (Ex : (Nat → Nat → JP)) (Qj : (Nat → JP)), vx_Met l yX2_atom (ws_ yX2_atom cX2_atom 5 (some (.object "MoveNotes$Cond"))) (jrm (20 + nf) bc bs) (va_Pc [.ref this] (jB D S0 (rJX2_atom bc bs this Ex Qj))) (jQr Qj D S0) (jXC D S0 Ex) bc bs (jA S0)) (ihJX2_row : ∀ (bc : Nat) (bs : Nat) (this : Nat) (p1 : Int32) (Ex : (Nat → Nat → JP)) (Qj : (Nat → JP)), vx_Met l yX2_row (ws_ yX2_row cX2_row 4 (some (.object "MoveNotes$Cond"))) (jrm (20 + nf) bc bs) (va_Pc [.ref this, .int p1] (jB D S0 (rJX2_row bc bs this p1 Ex Qj))) (jQr Qj D S0) (jXC D S0 Ex) bc bs (jA S0)) (hEx : jThr p l e R s m args below meth c Q D S0 4 cX2_row "MoveNotes$Reader" [] Ex) (hret : jRetA p l e R s m args below meth c Q D S0 4 cX2_row Qj) : ∀ (n : Nat) (x3_27 : Option Nat) (bc_27 : Nat) (bs_27 : Nat), JR p l e R s m args below meth c Q D S0 4 bc_27 bs_27 (jit (FX2_row_27 sK rJX2_atom rJX2_row this p1 Ex Qj v0) (fun _ _ _ => jbot) n x3_27 bc_27 bs_27) 27 [some (.ref this), some (.int p1), some (.ref v0), some (va_rf x3_27)] [] := by
  intro n
  induction n with
  | zero =>
    intro x3_27 bc_27 bs_27
    exact JR.bot
  | succ n ih27 =>
    intro x3_27 bc_27 bs_27
    show JR p l e R s m args below meth c Q D S0 4 bc_27 bs_27 (FX2_row_27 sK rJX2_atom rJX2_row this p1 Ex Qj v0 (jit (FX2_row_27 sK rJX2_atom rJX2_row this p1 Ex Qj v0) (fun _ _ _ => jbot) n) x3_27 bc_27 bs_27) 27 [some (.ref this), some (.int p1), some (.ref v0), some (va_rf x3_27)] []
    generalize jit (FX2_row_27 sK rJX2_atom rJX2_row this p1 Ex Qj v0) (fun _ _ _ => jbot) n = rec27 at ih27 ⊢
    unfold FX2_row_27
    refine jr_aload_n K dX2_row_27 rfl ?_
    refine jr_iload_n K dX2_row_28 rfl ?_
    refine jr_join (fun (k39 : Nat → JP) => ∀ (s1_39 : Nat), JR p l e R s m args below meth c Q D S0 4 bc_27 bs_27 (k39 s1_39) 39 [some (.ref this), some (.int p1), some (.ref v0), some (va_rf x3_27)] [.ref s1_39, .ref this]) ?_ (fun k39 hk39 => ?_)
    · intro s1_39
      refine jr_calli0 (jrun_V (As := [.ref s1_39]) (st := []) (ci := 2) K (metX2_takes K.hG hS this s1_39 _) mtX2_takes mvX2_takes q865 rfl rfl rfl (Nat.le_of_ble_eq_true rfl) (by omega) ⟨Nat.zero_le _, Nat.zero_le _⟩ dX2_row_39) (fun v39 => ?_)
      refine jr_if_eq K (tgt := 81) dX2_row_42 (by decide) ?_ ?_
      · refine jr_aload_n K dX2_row_81 rfl ?_
        exact hret _ _ _ _ _ dX2_row_82
      · refine jr_oload_n K dX2_row_45 rfl ?_
        refine jr_new K in_X17 rfl tyX17_ok dfo17 q970 q971 q122 dX2_row_46 (fun v46 => ?_)
        refine jr_dup K dX2_row_49 rfl ?_
        refine jr_iload_n K dX2_row_50 rfl ?_
        refine jr_join (fun (k66 : Nat → Nat → Nat → JP) => ∀ (s3_66 : Nat) (bc_66 : Nat) (bs_66 : Nat), JR p l e R s m args below meth c Q D S0 4 bc_66 bs_66 (k66 s3_66 bc_66 bs_66) 66 [some (.ref this), some (.int p1), some (.ref v0), some (va_rf x3_27)] [.ref s3_66, .ref v46, .ref v46, va_rf x3_27]) ?_ (fun k66 hk66 => ?_)
        · intro s3_66 bc_66 bs_66
          refine jr_iload_n K dX2_row_66 rfl ?_
          refine jr_callv0 (jrun_I (As := [.ref s3_66, .int p1]) (st := [.ref v46, va_rf x3_27]) K (metX17_init K.hG v46 s3_66 p1 _) mtX17_init q1040 rfl q1039 rfl rfl (by simp only [List.map, jcat_rf]; exact Nat.le_of_ble_eq_true rfl) (by omega) ⟨Nat.zero_le _, Nat.zero_le _⟩ dX2_row_67) ?_
          refine jr_some (fun u70 hs70 => ?_)
          subst hs70
          refine jr_put K pf_X2_163 dX2_row_70 rfl rfl ?_
          refine jr_aload_n K dX2_row_73 rfl ?_
          refine jr_getO K gf_X2_163 dX2_row_74 (fun v74 => ?_)
          refine jr_ostore_n K (L' := [some (.ref this), some (.int p1), some (.ref v0), some (va_rf v74)]) dX2_row_77 (by decide) rfl rfl ?_
          refine jr_goto K (tgt := 27) dX2_row_78 (by decide) ?_
          exact jr_weak (ih27 v74 bc_66 bs_66) ⟨rfl, rfl, rfl, rfl, trivial⟩
        refine jr_if_eq K (tgt := 61) dX2_row_51 (by decide) ?_ ?_
        · refine jr_aload_n K dX2_row_61 rfl ?_
          refine jr_iconst K dX2_row_62 (v := (nI 1)) (by decide) ?_
          refine jr_bud (fun mc63 ms63 hmc63 hms63 => ?_)
          refine jrx_callr ⟨hmc63, hms63⟩ (jrunx_V (As := [.int (nI 1)]) (st := [.ref v46, .ref v46, va_rf x3_27]) (ci := 2) K (ihJX2_row mc63 ms63 this (nI 1) Ex _) mtX2_row mvX2_row q966 rfl rfl rfl (by simp only [List.map, jcat_rf]; exact Nat.le_of_ble_eq_true rfl) (by omega) ⟨hmc63, hms63⟩ dX2_row_63) (fun x q => hEx.1 _ _ _ _ x q (fun _ h => nomatch h)) (fun v63 => ?_)
          exact jr_weak (hk66 v63 ((bc_27 - 1) - mc63) ((bs_27 - 3) - ms63)) ⟨rfl, rfl, rfl, rfl, trivial⟩
        · refine jr_aload_n K dX2_row_54 rfl ?_
          refine jr_bud (fun mc55 ms55 hmc55 hms55 => ?_)
          refine jrx_callr ⟨hmc55, hms55⟩ (jrunx_V (As := []) (st := [.ref v46, .ref v46, va_rf x3_27]) (ci := 2) K (ihJX2_atom mc55 ms55 this Ex _) mtX2_atom mvX2_atom q972 rfl rfl rfl (by simp only [List.map, jcat_rf]; exact Nat.le_of_ble_eq_true rfl) (by omega) ⟨hmc55, hms55⟩ dX2_row_55) (fun x q => hEx.1 _ _ _ _ x q (fun _ h => nomatch h)) (fun v55 => ?_)
          refine jr_goto K (tgt := 66) dX2_row_58 (by decide) ?_
          exact jr_weak (hk66 v55 ((bc_27 - 1) - mc55) ((bs_27 - 3) - ms55)) ⟨rfl, rfl, rfl, rfl, trivial⟩
    refine jr_if_eq K (tgt := 37) dX2_row_29 (by decide) ?_ ?_
    · refine jr_ldcS K hS (12, 161, "or") (by decide) dX2_row_37 ?_
      exact jr_weak (hk39 (sK 12)) ⟨rfl, rfl, rfl, rfl, trivial⟩
    · refine jr_ldcS K hS (11, 159, "and") (by decide) dX2_row_32 ?_
      refine jr_goto K (tgt := 39) dX2_row_34 (by decide) ?_
      exact jr_weak (hk39 (sK 11)) ⟨rfl, rfl, rfl, rfl, trivial⟩
theorem wX2_row (nf : Nat) (K : JK p l R s m args meth c D S0 A0 4 cX2_row "MoveNotes$Reader" (20 + (nf + 1))) (sK : Nat → Nat) (rJX2_atom : Nat → Nat → Nat → (Nat → Nat → JP) → (Nat → JP) → JP) (rJX2_row : Nat → Nat → Nat → Int32 → (Nat → Nat → JP) → (Nat → JP) → JP) (bc : Nat) (bs : Nat) (this : Nat) (p1 : Int32) (Ex : Nat → Nat → JP) (Qj : Nat → JP) (hS : jSt S0 sK) (ihJX2_atom : ∀ (bc : Nat) (bs : Nat) (this : Nat) (Ex : (Nat → Nat → JP)) (Qj : (Nat → JP)), vx_Met l yX2_atom (ws_ yX2_atom cX2_atom 5 (some (.object "MoveNotes$Cond"))) (jrm (20 + nf) bc bs) (va_Pc [.ref this] (jB D S0 (rJX2_atom bc bs this Ex Qj))) (jQr Qj D S0) (jXC D S0 Ex) bc bs (jA S0)) (ihJX2_row : ∀ (bc : Nat) (bs : Nat) (this : Nat) (p1 : Int32) (Ex : (Nat → Nat → JP)) (Qj : (Nat → JP)), vx_Met l yX2_row (ws_ yX2_row cX2_row 4 (some (.object "MoveNotes$Cond"))) (jrm (20 + nf) bc bs) (va_Pc [.ref this, .int p1] (jB D S0 (rJX2_row bc bs this p1 Ex Qj))) (jQr Qj D S0) (jXC D S0 Ex) bc bs (jA S0)) (hEx : jThr p l e R s m args below meth c Q D S0 4 cX2_row "MoveNotes$Reader" [] Ex) (hret : jRetA p l e R s m args below meth c Q D S0 4 cX2_row Qj) : JR p l e R s m args below meth c Q D S0 4 bc bs (JX2_rowF sK rJX2_atom rJX2_row bc bs this p1 Ex Qj) 0 [some (.ref this), some (.int p1), none, none] [] := by
  unfold JX2_rowF
  refine jr_new K in_X17 rfl tyX17_ok dfo17 q970 q971 q122 dX2_row_0 (fun v0 => ?_)
  refine jr_dup K dX2_row_3 rfl ?_
  refine jr_iload_n K dX2_row_4 rfl ?_
  refine jr_join (fun (k20 : Nat → Nat → Nat → JP) => ∀ (s2_20 : Nat) (bc_20 : Nat) (bs_20 : Nat), JR p l e R s m args below meth c Q D S0 4 bc_20 bs_20 (k20 s2_20 bc_20 bs_20) 20 [some (.ref this), some (.int p1), none, none] [.ref s2_20, .ref v0, .ref v0]) ?_ (fun k20 hk20 => ?_)
  · intro s2_20 bc_20 bs_20
    refine jr_iload_n K dX2_row_20 rfl ?_
    refine jr_callv0 (jrun_I (As := [.ref s2_20, .int p1]) (st := [.ref v0]) K (metX17_init K.hG v0 s2_20 p1 _) mtX17_init q1040 rfl q1039 rfl rfl (Nat.le_of_ble_eq_true rfl) (by omega) ⟨Nat.zero_le _, Nat.zero_le _⟩ dX2_row_21) ?_
    refine jr_astore_n K (L' := [some (.ref this), some (.int p1), some (.ref v0), none]) dX2_row_24 (by decide) rfl rfl ?_
    refine jr_aload_n K dX2_row_25 rfl ?_
    refine jr_astore_n K (L' := [some (.ref this), some (.int p1), some (.ref v0), some (.ref v0)]) dX2_row_26 (by decide) rfl rfl ?_
    refine jr_ex (fun n27 => ?_)
    refine jr_weak (wX2_row_27 nf K sK rJX2_atom rJX2_row bc bs this p1 Ex Qj v0 hS ihJX2_atom ihJX2_row hEx hret n27 (some v0) bc_20 bs_20) ⟨rfl, rfl, rfl, rfl, trivial⟩
  refine jr_if_eq K (tgt := 15) dX2_row_5 (by decide) ?_ ?_
  · refine jr_aload_n K dX2_row_15 rfl ?_
    refine jr_iconst K dX2_row_16 (v := (nI 1)) (by decide) ?_
    refine jr_bud (fun mc17 ms17 hmc17 hms17 => ?_)
    refine jrx_callr ⟨hmc17, hms17⟩ (jrunx_V (As := [.int (nI 1)]) (st := [.ref v0, .ref v0]) (ci := 2) K (ihJX2_row mc17 ms17 this (nI 1) Ex _) mtX2_row mvX2_row q966 rfl rfl rfl (Nat.le_of_ble_eq_true rfl) (by omega) ⟨hmc17, hms17⟩ dX2_row_17) (fun x q => hEx.1 _ _ _ _ x q (fun _ h => nomatch h)) (fun v17 => ?_)
    exact jr_weak (hk20 v17 ((bc - 1) - mc17) ((bs - 3) - ms17)) ⟨rfl, rfl, trivial⟩
  · refine jr_aload_n K dX2_row_8 rfl ?_
    refine jr_bud (fun mc9 ms9 hmc9 hms9 => ?_)
    refine jrx_callr ⟨hmc9, hms9⟩ (jrunx_V (As := []) (st := [.ref v0, .ref v0]) (ci := 2) K (ihJX2_atom mc9 ms9 this Ex _) mtX2_atom mvX2_atom q972 rfl rfl rfl (Nat.le_of_ble_eq_true rfl) (by omega) ⟨hmc9, hms9⟩ dX2_row_9) (fun x q => hEx.1 _ _ _ _ x q (fun _ h => nomatch h)) (fun v9 => ?_)
    refine jr_goto K (tgt := 20) dX2_row_12 (by decide) ?_
    exact jr_weak (hk20 v9 ((bc - 1) - mc9) ((bs - 3) - ms9)) ⟨rfl, rfl, trivial⟩
theorem metX2_atomR (hG : jG l D S0 A0) {sK : Nat → Nat} (hS : jSt S0 sK) : ∀ n : Nat, (∀ (bc : Nat) (bs : Nat) (this : Nat) (Ex : (Nat → Nat → JP)) (Qj : (Nat → JP)), vx_Met l yX2_atom (ws_ yX2_atom cX2_atom 5 (some (.object "MoveNotes$Cond"))) (jrm (20 + n) bc bs) (va_Pc [.ref this] (jB D S0 (JX2_atom sK n bc bs this Ex Qj))) (jQr Qj D S0) (jXC D S0 Ex) bc bs (jA S0)) ∧ (∀ (bc : Nat) (bs : Nat) (this : Nat) (p1 : Int32) (Ex : (Nat → Nat → JP)) (Qj : (Nat → JP)), vx_Met l yX2_row (ws_ yX2_row cX2_row 4 (some (.object "MoveNotes$Cond"))) (jrm (20 + n) bc bs) (va_Pc [.ref this, .int p1] (jB D S0 (JX2_row sK n bc bs this p1 Ex Qj))) (jQr Qj D S0) (jXC D S0 Ex) bc bs (jA S0)) := by
  intro n
  induction n with
  | zero =>
    exact ⟨(fun bc bs this Ex Qj =>
    jx_start hG (by decide) (by omega) (Nat.le_of_ble_eq_true rfl) rfl fun p e s m below meth c K hr hEx => JR.bot), (fun bc bs this p1 Ex Qj =>
    jx_start hG (by decide) (by omega) (Nat.le_of_ble_eq_true rfl) rfl fun p e s m below meth c K hr hEx => JR.bot)⟩
  | succ n ih =>
    exact ⟨(fun bc bs this Ex Qj =>
    jx_start hG (by decide) (by omega) (Nat.le_of_ble_eq_true rfl) rfl fun p e s m below meth c K hr hEx => wX2_atom n K sK _ _ bc bs this Ex Qj hS ih.1 ih.2 hEx (fun _ _ _ _ _ d => jr_xret jx_mq (jr_aret K hr (Or.inl ⟨_, rfl⟩) d))), (fun bc bs this p1 Ex Qj =>
    jx_start hG (by decide) (by omega) (Nat.le_of_ble_eq_true rfl) rfl fun p e s m below meth c K hr hEx => wX2_row n K sK _ _ bc bs this p1 Ex Qj hS ih.1 ih.2 hEx (fun _ _ _ _ _ d => jr_xret jx_mq (jr_aret K hr (Or.inl ⟨_, rfl⟩) d)))⟩
theorem metX2_atom (hG : jG l D S0 A0) {sK : Nat → Nat} (hS : jSt S0 sK) (n : Nat) : ∀ (bc : Nat) (bs : Nat) (this : Nat) (Ex : (Nat → Nat → JP)) (Qj : (Nat → JP)), vx_Met l yX2_atom (ws_ yX2_atom cX2_atom 5 (some (.object "MoveNotes$Cond"))) (jrm (20 + n) bc bs) (va_Pc [.ref this] (jB D S0 (JX2_atom sK n bc bs this Ex Qj))) (jQr Qj D S0) (jXC D S0 Ex) bc bs (jA S0) := (metX2_atomR hG hS n).1
theorem metX2_row (hG : jG l D S0 A0) {sK : Nat → Nat} (hS : jSt S0 sK) (n : Nat) : ∀ (bc : Nat) (bs : Nat) (this : Nat) (p1 : Int32) (Ex : (Nat → Nat → JP)) (Qj : (Nat → JP)), vx_Met l yX2_row (ws_ yX2_row cX2_row 4 (some (.object "MoveNotes$Cond"))) (jrm (20 + n) bc bs) (va_Pc [.ref this, .int p1] (jB D S0 (JX2_row sK n bc bs this p1 Ex Qj))) (jQr Qj D S0) (jXC D S0 Ex) bc bs (jA S0) := (metX2_atomR hG hS n).2
theorem wX16_init (K : JK p l R s m args meth c D S0 A0 4 cX16_init "MoveNotes$PlayLine" 12) (hn : meth.name = "<init>") (bc bs : Nat) (this : Nat) (p1 : Int32) (p2 : Int32) (p3 : Option Nat) (Qj : JP) (hret : jRetV p l e R s m args below meth c Q D S0 4 cX16_init Qj) : JR p l e R s m args below meth c Q D S0 4 bc bs (JX16_init this p1 p2 p3 Qj) 0 [some (.ref this), some (.int p1), some (.int p2), some (va_rf p3)] [] := by
  unfold JX16_init
  refine jr_aload_n K dX16_init_0 rfl ?_
  refine jr_objInit K q1059 dX16_init_1 (by decide) (Nat.le_of_ble_eq_true rfl) ?_
  refine jr_aload_n K dX16_init_4 rfl ?_
  refine jr_iload_n K dX16_init_5 rfl ?_
  refine jr_put K (pf_X16_9 hn) dX16_init_6 rfl rfl ?_
  refine jr_aload_n K dX16_init_9 rfl ?_
  refine jr_iload_n K dX16_init_10 rfl ?_
  refine jr_put K (pf_X16_15 hn) dX16_init_11 rfl rfl ?_
  refine jr_aload_n K dX16_init_14 rfl ?_
  refine jr_oload_n K dX16_init_15 rfl ?_
  refine jr_put K (pf_X16_18 hn) dX16_init_16 (jnar_rf _ _) (jfits_rf _ _) ?_
  exact hret _ _ _ _ dX16_init_19
theorem metX16_init (hG : jG l D S0 A0) (this : Nat) (p1 : Int32) (p2 : Int32) (p3 : Option Nat) (Qj : JP) : Met l yX16_init (ws_ yX16_init cX16_init 4 none) (jrm 12 0 0) (va_Pc [.ref this, .int p1, .int p2, va_rf p3] (jB D S0 (JX16_init this p1 p2 p3 Qj))) (va_Qv Qj (fun σ t => jRep D S0.heap.size σ t.heap) (jA S0)) 0 0 (jA S0) :=
  jr_start hG (by decide) (by cases p3 <;> exact Nat.le_of_ble_eq_true rfl) (by cases p3 <;> rfl) fun p e s m below meth c K hr hn => wX16_init K hn _ _ this p1 p2 p3 Qj (fun _ _ _ _ d => jr_vret K hr d)
theorem wX2_playLine (K : JK p l R s m args meth c D S0 A0 3 cX2_playLine "MoveNotes$Reader" 61) (sK : Nat → Nat) (bc : Nat) (bs : Nat) (this : Nat) (Ex : Nat → Nat → JP) (Qj : Nat → JP) (hS : jSt S0 sK) (hEx : jThr p l e R s m args below meth c Q D S0 3 cX2_playLine "MoveNotes$Reader" [] Ex) (hret : jRetA p l e R s m args below meth c Q D S0 3 cX2_playLine Qj) : JR p l e R s m args below meth c Q D S0 3 bc bs (JX2_playLine sK bc bs this Ex Qj) 0 [some (.ref this), none, none] [] := by
  unfold JX2_playLine
  refine jr_aload_n K dX2_playLine_0 rfl ?_
  refine jr_ldcS K hS (9, 137, "add") (by decide) dX2_playLine_1 ?_
  refine jr_calli0 (jrun_V (As := [.ref (sK 9)]) (st := []) (ci := 2) K (metX2_takes K.hG hS this (sK 9) _) mtX2_takes mvX2_takes q865 rfl rfl rfl (Nat.le_of_ble_eq_true rfl) (by decide) ⟨Nat.zero_le _, Nat.zero_le _⟩ dX2_playLine_3) (fun v3 => ?_)
  refine jr_join (fun (k17 : JP) => JR p l e R s m args below meth c Q D S0 3 bc bs k17 17 [some (.ref this), none, none] []) ?_ (fun k17 hk17 => ?_)
  · refine jr_aload_n K dX2_playLine_17 rfl ?_
    refine jr_iconst K dX2_playLine_18 (v := (nI 0)) (by decide) ?_
    refine jr_sipush K dX2_playLine_19 (v := (nI 999)) (by decide) ?_
    refine jrx_calli ⟨Nat.zero_le _, Nat.zero_le _⟩ (jrunx_V (As := [.int (nI 0), .int (nI 999)]) (st := []) (ci := 2) K (metX2_number K.hG this (nI 0) (nI 999) Ex _) mtX2_number mvX2_number q919 rfl rfl rfl (Nat.le_of_ble_eq_true rfl) (by decide) ⟨Nat.zero_le _, Nat.zero_le _⟩ dX2_playLine_22) (fun x q => hEx.1 _ _ _ _ x q (fun _ h => nomatch h)) (fun v22 => ?_)
    refine jr_istore_n K (L' := [some (.ref this), some (.int v22), none]) dX2_playLine_25 (by decide) rfl rfl ?_
    refine jr_iconst K dX2_playLine_26 (v := (-1)) (by decide) ?_
    refine jr_istore_n K (L' := [some (.ref this), some (.int v22), some (.int (-1))]) dX2_playLine_27 (by decide) rfl rfl ?_
    refine jr_aload_n K dX2_playLine_28 rfl ?_
    refine jr_calli0 (jrun_V (As := []) (st := []) (ci := 2) K (metX2_sign K.hG this _) mtX2_sign mvX2_sign q852 rfl rfl rfl (Nat.le_of_ble_eq_true rfl) (by decide) ⟨Nat.zero_le _, Nat.zero_le _⟩ dX2_playLine_29) (fun v29 => ?_)
    refine jr_bipush K dX2_playLine_32 (v := (nI 42)) (by decide) ?_
    refine jr_join (fun (k52 : Int32 → JP) => ∀ (x2_52 : Int32), JR p l e R s m args below meth c Q D S0 3 bc bs (k52 x2_52) 52 [some (.ref this), some (.int v22), some (.int x2_52)] []) ?_ (fun k52 hk52 => ?_)
    · intro x2_52
      refine jr_new K in_X16 rfl tyX16_ok dfo16 q160 q964 q121 dX2_playLine_52 (fun v52 => ?_)
      refine jr_dup K dX2_playLine_55 rfl ?_
      refine jr_iload_n K dX2_playLine_56 rfl ?_
      refine jr_iload_n K dX2_playLine_57 rfl ?_
      refine jr_aload_n K dX2_playLine_58 rfl ?_
      refine jr_ldcS K hS (10, 142, "if") (by decide) dX2_playLine_59 ?_
      refine jr_calli0 (jrun_V (As := [.ref (sK 10)]) (st := [.int x2_52, .int v22, .ref v52, .ref v52]) (ci := 2) K (metX2_takes K.hG hS this (sK 10) _) mtX2_takes mvX2_takes q865 rfl rfl rfl (Nat.le_of_ble_eq_true rfl) (by decide) ⟨Nat.zero_le _, Nat.zero_le _⟩ dX2_playLine_61) (fun v61 => ?_)
      refine jr_if_eq K (tgt := 75) dX2_playLine_64 (by decide) ?_ ?_
      · refine jr_null K dX2_playLine_75 ?_
        refine jr_callv0 (jrun_I (As := [.int v22, .int x2_52, va_rf none]) (st := [.ref v52]) K (metX16_init K.hG v52 v22 x2_52 none _) mtX16_init q1057 rfl q1056 rfl rfl (by simp only [List.map, jcat_rf]; exact Nat.le_of_ble_eq_true rfl) (by decide) ⟨Nat.zero_le _, Nat.zero_le _⟩ dX2_playLine_76) ?_
        exact hret _ _ _ _ _ dX2_playLine_79
      · refine jr_aload_n K dX2_playLine_67 rfl ?_
        refine jr_iconst K dX2_playLine_68 (v := (nI 0)) (by decide) ?_
        refine jr_bud (fun mc69 ms69 hmc69 hms69 => ?_)
        refine jrx_callr ⟨hmc69, hms69⟩ (jrunx_V (As := [.int (nI 0)]) (st := [.int x2_52, .int v22, .ref v52, .ref v52]) (ci := 2) K (metX2_row K.hG hS 40 mc69 ms69 this (nI 0) Ex _) mtX2_row mvX2_row q966 rfl rfl rfl (Nat.le_of_ble_eq_true rfl) (by decide) ⟨hmc69, hms69⟩ dX2_playLine_69) (fun x q => hEx.1 _ _ _ _ x q (fun _ h => nomatch h)) (fun v69 => ?_)
        refine jr_goto K (tgt := 76) dX2_playLine_72 (by decide) ?_
        refine jr_callv0 (jrun_I (As := [.int v22, .int x2_52, va_rf (some v69)]) (st := [.ref v52]) K (metX16_init K.hG v52 v22 x2_52 (some v69) _) mtX16_init q1057 rfl q1056 rfl rfl (Nat.le_of_ble_eq_true rfl) (by decide) ⟨Nat.zero_le _, Nat.zero_le _⟩ dX2_playLine_76) ?_
        exact hret _ _ _ _ _ dX2_playLine_79
    refine jr_icmp_ne K (tgt := 52) dX2_playLine_34 (by decide) ?_ ?_
    · exact jr_weak (hk52 (-1)) ⟨rfl, rfl, rfl, trivial⟩
    · refine jr_aload_n K dX2_playLine_37 rfl ?_
      refine jr_dup K dX2_playLine_38 rfl ?_
      refine jr_getI K gf_X2_66 dX2_playLine_39 (fun v39 => ?_)
      refine jr_iconst K dX2_playLine_42 (v := (nI 1)) (by decide) ?_
      refine jr_iadd K dX2_playLine_43 ?_
      refine jr_put K pf_X2_66 dX2_playLine_44 rfl rfl ?_
      refine jr_aload_n K dX2_playLine_47 rfl ?_
      refine jrx_calli ⟨Nat.zero_le _, Nat.zero_le _⟩ (jrunx_V (As := []) (st := []) (ci := 2) K (metX2_fact K.hG hS this Ex _) mtX2_fact mvX2_fact q960 rfl rfl rfl (Nat.le_of_ble_eq_true rfl) (by decide) ⟨Nat.zero_le _, Nat.zero_le _⟩ dX2_playLine_48) (fun x q => hEx.1 _ _ _ _ x q (fun _ h => nomatch h)) (fun v48 => ?_)
      refine jr_istore_n K (L' := [some (.ref this), some (.int v22), some (.int v48)]) dX2_playLine_51 (by decide) rfl rfl ?_
      exact jr_weak (hk52 v48) ⟨rfl, rfl, rfl, trivial⟩
  refine jr_if_ne K (tgt := 17) dX2_playLine_6 (by decide) ?_ ?_
  · exact jr_weak (hk17) ⟨rfl, trivial⟩
  · refine jr_aload_n K dX2_playLine_9 rfl ?_
    refine jr_aload_n K dX2_playLine_10 rfl ?_
    refine jr_getI K gf_X2_66 dX2_playLine_11 (fun v11 => ?_)
    refine jrx_callv ⟨Nat.zero_le _, Nat.zero_le _⟩ (jrunx_V (As := [.int v11]) (st := []) (ci := 2) K (metX2_fail K.hG this v11 Ex _) mtX2_fail mvX2_fail q856 rfl rfl rfl (Nat.le_of_ble_eq_true rfl) (by decide) ⟨Nat.zero_le _, Nat.zero_le _⟩ dX2_playLine_14) (fun x q => hEx.1 _ _ _ _ x q (fun _ h => nomatch h)) ?_
    exact jr_weak (hk17) ⟨rfl, trivial⟩
theorem metX2_playLine (hG : jG l D S0 A0) {sK : Nat → Nat} (hS : jSt S0 sK) (bc : Nat) (bs : Nat) (this : Nat) (Ex : Nat → Nat → JP) (Qj : Nat → JP) : vx_Met l yX2_playLine (ws_ yX2_playLine cX2_playLine 3 (some (.object "MoveNotes$PlayLine"))) (jrm 61 bc bs) (va_Pc [.ref this] (jB D S0 (JX2_playLine sK bc bs this Ex Qj))) (jQr Qj D S0) (jXC D S0 Ex) bc bs (jA S0) :=
  jx_start hG (by decide) (by decide) (Nat.le_of_ble_eq_true rfl) rfl fun p e s m below meth c K hr hEx => wX2_playLine K sK bc bs this Ex Qj hS hEx (fun _ _ _ _ _ d => jr_xret jx_mq (jr_aret K hr (Or.inl ⟨_, rfl⟩) d))
theorem wX2_lines_32 (K : JK p l R s m args meth c D S0 A0 6 cX2_lines "MoveNotes$Reader" 62) (sK : Nat → Nat) (bc : Nat) (bs : Nat) (this : Nat) (p2 : Int32) (Ex : Nat → Nat → JP) (Qj : Int32 → JP) (hS : jSt S0 sK) (hEx : jThr p l e R s m args below meth c Q D S0 6 cX2_lines "MoveNotes$Reader" [] Ex) (hret : jRetI p l e R s m args below meth c Q D S0 6 cX2_lines Qj) : ∀ (n : Nat) (x3_32 : Int32) (x4_32 : Int32) (bc_32 : Nat) (bs_32 : Nat), JR p l e R s m args below meth c Q D S0 6 bc_32 bs_32 (jit (FX2_lines_32 sK this p2 Ex Qj) (fun _ _ _ _ => jbot) n x3_32 x4_32 bc_32 bs_32) 32 [some (.ref this), none, some (.int p2), some (.int x3_32), some (.int x4_32), none] [] := by
  intro n
  induction n with
  | zero =>
    intro x3_32 x4_32 bc_32 bs_32
    exact JR.bot
  | succ n ih32 =>
    intro x3_32 x4_32 bc_32 bs_32
    show JR p l e R s m args below meth c Q D S0 6 bc_32 bs_32 (FX2_lines_32 sK this p2 Ex Qj (jit (FX2_lines_32 sK this p2 Ex Qj) (fun _ _ _ _ => jbot) n) x3_32 x4_32 bc_32 bs_32) 32 [some (.ref this), none, some (.int p2), some (.int x3_32), some (.int x4_32), none] []
    generalize jit (FX2_lines_32 sK this p2 Ex Qj) (fun _ _ _ _ => jbot) n = rec32 at ih32 ⊢
    unfold FX2_lines_32
    refine jr_iload K dX2_lines_32 rfl ?_
    refine jr_if_eq K (tgt := 149) dX2_lines_34 (by decide) ?_ ?_
    · refine jr_iload_n K dX2_lines_149 rfl ?_
      exact hret _ _ _ _ _ dX2_lines_150
    · refine jr_aload_n K dX2_lines_37 rfl ?_
      refine jr_calli0 (jrun_V (As := []) (st := []) (ci := 2) K (metX2_sign K.hG this _) mtX2_sign mvX2_sign q852 rfl rfl rfl (Nat.le_of_ble_eq_true rfl) (by decide) ⟨Nat.zero_le _, Nat.zero_le _⟩ dX2_lines_38) (fun v38 => ?_)
      refine jr_istore K (L' := [some (.ref this), none, some (.int p2), some (.int x3_32), some (.int x4_32), some (.int v38)]) dX2_lines_41 (by decide) rfl rfl ?_
      refine jr_iload_n K dX2_lines_43 rfl ?_
      refine jr_iload_n K dX2_lines_44 rfl ?_
      refine jr_join (fun (k55 : Int32 → JP) => ∀ (s1_55 : Int32), JR p l e R s m args below meth c Q D S0 6 bc_32 bs_32 (k55 s1_55) 55 [some (.ref this), none, some (.int p2), some (.int x3_32), none, none] [.int s1_55, .int x3_32]) ?_ (fun k55 hk55 => ?_)
      · intro s1_55
        refine jr_join (fun (k66 : JP) => JR p l e R s m args below meth c Q D S0 6 bc_32 bs_32 k66 66 [some (.ref this), none, some (.int p2), some (.int x3_32), none, none] []) ?_ (fun k66 hk66 => ?_)
        · refine jr_iload_n K dX2_lines_66 rfl ?_
          refine jr_join (fun (k93 : Nat → Nat → JP) => ∀ (bc_93 : Nat) (bs_93 : Nat), JR p l e R s m args below meth c Q D S0 6 bc_93 bs_93 (k93 bc_93 bs_93) 93 [some (.ref this), none, some (.int p2), some (.int x3_32), none, none] []) ?_ (fun k93 hk93 => ?_)
          · intro bc_93 bs_93
            refine jr_iinc K (v := (x3_32 + (nI 1))) (L' := [some (.ref this), none, some (.int p2), some (.int (x3_32 + (nI 1))), none, none]) dX2_lines_93 rfl rfl (by decide) rfl rfl ?_
            refine jr_aload_n K dX2_lines_96 rfl ?_
            refine jr_calli0 (jrun_V (As := []) (st := []) (ci := 2) K (metX2_sign K.hG this _) mtX2_sign mvX2_sign q852 rfl rfl rfl (Nat.le_of_ble_eq_true rfl) (by decide) ⟨Nat.zero_le _, Nat.zero_le _⟩ dX2_lines_97) (fun v97 => ?_)
            refine jr_bipush K dX2_lines_100 (v := (nI 59)) (by decide) ?_
            refine jr_join (fun (k110 : Int32 → JP) => ∀ (s0_110 : Int32), JR p l e R s m args below meth c Q D S0 6 bc_93 bs_93 (k110 s0_110) 110 [some (.ref this), none, some (.int p2), some (.int (x3_32 + (nI 1))), none, none] [.int s0_110]) ?_ (fun k110 hk110 => ?_)
            · intro s0_110
              refine jr_istore K (L' := [some (.ref this), none, some (.int p2), some (.int (x3_32 + (nI 1))), some (.int s0_110), none]) dX2_lines_110 (by decide) rfl rfl ?_
              refine jr_iload K dX2_lines_112 rfl ?_
              refine jr_join (fun (k146 : JP) => JR p l e R s m args below meth c Q D S0 6 bc_93 bs_93 k146 146 [some (.ref this), none, some (.int p2), some (.int (x3_32 + (nI 1))), some (.int s0_110), none] []) ?_ (fun k146 hk146 => ?_)
              · refine jr_goto K (tgt := 32) dX2_lines_146 (by decide) ?_
                exact jr_weak (ih32 (x3_32 + (nI 1)) s0_110 bc_93 bs_93) ⟨rfl, rfl, rfl, rfl, trivial⟩
              refine jr_if_eq K (tgt := 130) dX2_lines_114 (by decide) ?_ ?_
              · refine jr_aload_n K dX2_lines_130 rfl ?_
                refine jr_calli0 (jrun_V (As := []) (st := []) (ci := 2) K (metX2_sign K.hG this _) mtX2_sign mvX2_sign q852 rfl rfl rfl (Nat.le_of_ble_eq_true rfl) (by decide) ⟨Nat.zero_le _, Nat.zero_le _⟩ dX2_lines_131) (fun v131 => ?_)
                refine jr_iconst K dX2_lines_134 (v := (-1)) (by decide) ?_
                refine jr_icmp_eq K (tgt := 146) dX2_lines_135 (by decide) ?_ ?_
                · exact jr_weak (hk146) ⟨rfl, rfl, rfl, rfl, trivial⟩
                · refine jr_aload_n K dX2_lines_138 rfl ?_
                  refine jr_aload_n K dX2_lines_139 rfl ?_
                  refine jr_getI K gf_X2_66 dX2_lines_140 (fun v140 => ?_)
                  refine jrx_callv ⟨Nat.zero_le _, Nat.zero_le _⟩ (jrunx_V (As := [.int v140]) (st := []) (ci := 2) K (metX2_fail K.hG this v140 Ex _) mtX2_fail mvX2_fail q856 rfl rfl rfl (Nat.le_of_ble_eq_true rfl) (by decide) ⟨Nat.zero_le _, Nat.zero_le _⟩ dX2_lines_143) (fun x q => hEx.1 _ _ _ _ x q (fun _ h => nomatch h)) ?_
                  exact jr_weak (hk146) ⟨rfl, rfl, rfl, rfl, trivial⟩
              · refine jr_aload_n K dX2_lines_117 rfl ?_
                refine jr_dup K dX2_lines_118 rfl ?_
                refine jr_getI K gf_X2_66 dX2_lines_119 (fun v119 => ?_)
                refine jr_iconst K dX2_lines_122 (v := (nI 1)) (by decide) ?_
                refine jr_iadd K dX2_lines_123 ?_
                refine jr_put K pf_X2_66 dX2_lines_124 rfl rfl ?_
                refine jr_goto K (tgt := 146) dX2_lines_127 (by decide) ?_
                exact jr_weak (hk146) ⟨rfl, rfl, rfl, rfl, trivial⟩
            refine jr_icmp_ne K (tgt := 109) dX2_lines_102 (by decide) ?_ ?_
            · refine jr_iconst K dX2_lines_109 (v := (nI 0)) (by decide) ?_
              exact jr_weak (hk110 (nI 0)) ⟨rfl, rfl, rfl, trivial⟩
            · refine jr_iconst K dX2_lines_105 (v := (nI 1)) (by decide) ?_
              refine jr_goto K (tgt := 110) dX2_lines_106 (by decide) ?_
              exact jr_weak (hk110 (nI 1)) ⟨rfl, rfl, rfl, trivial⟩
          refine jr_if_eq K (tgt := 83) dX2_lines_67 (by decide) ?_ ?_
          · refine jr_aload_n K dX2_lines_83 rfl ?_
            refine jr_getA K gf_X2_37 dX2_lines_84 (fun v84 => ?_)
            refine jr_iload_n K dX2_lines_87 rfl ?_
            refine jr_aload_n K dX2_lines_88 rfl ?_
            refine jr_bud (fun mc89 ms89 hmc89 hms89 => ?_)
            refine jrx_callr ⟨hmc89, hms89⟩ (jrunx_V (As := []) (st := [.int x3_32, .ref v84]) (ci := 2) K (metX2_playLine K.hG hS mc89 ms89 this Ex _) mtX2_playLine mvX2_playLine q955 rfl rfl rfl (Nat.le_of_ble_eq_true rfl) (by decide) ⟨hmc89, hms89⟩ dX2_lines_89) (fun x q => hEx.1 _ _ _ _ x q (fun _ h => nomatch h)) (fun v89 => ?_)
            refine jr_aast K (by decide) jfit_6_16 dX2_lines_92 ?_
            exact jr_weak (hk93 (bc_32 - mc89) (bs_32 - ms89)) ⟨rfl, rfl, rfl, trivial⟩
          · refine jr_aload_n K dX2_lines_70 rfl ?_
            refine jr_getA K gf_X2_31 dX2_lines_71 (fun v71 => ?_)
            refine jr_iload_n K dX2_lines_74 rfl ?_
            refine jr_aload_n K dX2_lines_75 rfl ?_
            refine jr_bud (fun mc76 ms76 hmc76 hms76 => ?_)
            refine jrx_callr ⟨hmc76, hms76⟩ (jrunx_V (As := []) (st := [.int x3_32, .ref v71]) (ci := 2) K (metX2_going K.hG hS mc76 ms76 this Ex _) mtX2_going mvX2_going q860 rfl rfl rfl (Nat.le_of_ble_eq_true rfl) (by decide) ⟨hmc76, hms76⟩ dX2_lines_76) (fun x q => hEx.1 _ _ _ _ x q (fun _ h => nomatch h)) (fun v76 => ?_)
            refine jr_aastX K (by decide) dX2_lines_79 ?_
            refine jr_goto K (tgt := 93) dX2_lines_80 (by decide) ?_
            exact jr_weak (hk93 (bc_32 - mc76) (bs_32 - ms76)) ⟨rfl, rfl, rfl, trivial⟩
        refine jr_icmp_ne K (tgt := 66) dX2_lines_55 (by decide) ?_ ?_
        · exact jr_weak (hk66) ⟨rfl, rfl, rfl, trivial⟩
        · refine jr_aload_n K dX2_lines_58 rfl ?_
          refine jr_aload_n K dX2_lines_59 rfl ?_
          refine jr_getI K gf_X2_66 dX2_lines_60 (fun v60 => ?_)
          refine jrx_callv ⟨Nat.zero_le _, Nat.zero_le _⟩ (jrunx_V (As := [.int v60]) (st := []) (ci := 2) K (metX2_fail K.hG this v60 Ex _) mtX2_fail mvX2_fail q856 rfl rfl rfl (Nat.le_of_ble_eq_true rfl) (by decide) ⟨Nat.zero_le _, Nat.zero_le _⟩ dX2_lines_63) (fun x q => hEx.1 _ _ _ _ x q (fun _ h => nomatch h)) ?_
          exact jr_weak (hk66) ⟨rfl, rfl, rfl, trivial⟩
      refine jr_if_eq K (tgt := 53) dX2_lines_45 (by decide) ?_ ?_
      · refine jr_bipush K dX2_lines_53 (v := (nI 10)) (by decide) ?_
        exact jr_weak (hk55 (nI 10)) ⟨rfl, rfl, rfl, trivial⟩
      · refine jr_bipush K dX2_lines_48 (v := (nI 6)) (by decide) ?_
        refine jr_goto K (tgt := 55) dX2_lines_50 (by decide) ?_
        exact jr_weak (hk55 (nI 6)) ⟨rfl, rfl, rfl, trivial⟩
theorem wX2_lines (K : JK p l R s m args meth c D S0 A0 6 cX2_lines "MoveNotes$Reader" 62) (sK : Nat → Nat) (bc : Nat) (bs : Nat) (this : Nat) (p1 : Int32) (p2 : Int32) (Ex : Nat → Nat → JP) (Qj : Int32 → JP) (hS : jSt S0 sK) (hEx : jThr p l e R s m args below meth c Q D S0 6 cX2_lines "MoveNotes$Reader" [] Ex) (hret : jRetI p l e R s m args below meth c Q D S0 6 cX2_lines Qj) : JR p l e R s m args below meth c Q D S0 6 bc bs (JX2_lines sK bc bs this p1 p2 Ex Qj) 0 [some (.ref this), some (.int p1), some (.int p2), none, none, none] [] := by
  unfold JX2_lines
  refine jr_aload_n K dX2_lines_0 rfl ?_
  refine jr_iload_n K dX2_lines_1 rfl ?_
  refine jr_put K pf_X2_69 dX2_lines_2 rfl rfl ?_
  refine jr_aload_n K dX2_lines_5 rfl ?_
  refine jr_iconst K dX2_lines_6 (v := (nI 0)) (by decide) ?_
  refine jr_put K pf_X2_66 dX2_lines_7 rfl rfl ?_
  refine jr_aload_n K dX2_lines_10 rfl ?_
  refine jr_iconst K dX2_lines_11 (v := (nI 0)) (by decide) ?_
  refine jr_put K pf_X2_87 dX2_lines_12 rfl rfl ?_
  refine jr_iconst K dX2_lines_15 (v := (nI 0)) (by decide) ?_
  refine jr_istore_n K (L' := [some (.ref this), some (.int p1), some (.int p2), some (.int (nI 0)), none, none]) dX2_lines_16 (by decide) rfl rfl ?_
  refine jr_aload_n K dX2_lines_17 rfl ?_
  refine jr_calli0 (jrun_V (As := []) (st := []) (ci := 2) K (metX2_sign K.hG this _) mtX2_sign mvX2_sign q852 rfl rfl rfl (Nat.le_of_ble_eq_true rfl) (by decide) ⟨Nat.zero_le _, Nat.zero_le _⟩ dX2_lines_18) (fun v18 => ?_)
  refine jr_iconst K dX2_lines_21 (v := (-1)) (by decide) ?_
  refine jr_join (fun (k30 : Int32 → JP) => ∀ (s0_30 : Int32), JR p l e R s m args below meth c Q D S0 6 bc bs (k30 s0_30) 30 [some (.ref this), none, some (.int p2), some (.int (nI 0)), none, none] [.int s0_30]) ?_ (fun k30 hk30 => ?_)
  · intro s0_30
    refine jr_istore K (L' := [some (.ref this), none, some (.int p2), some (.int (nI 0)), some (.int s0_30), none]) dX2_lines_30 (by decide) rfl rfl ?_
    refine jr_ex (fun n32 => ?_)
    refine jr_weak (wX2_lines_32 K sK bc bs this p2 Ex Qj hS hEx hret n32 (nI 0) s0_30 bc bs) ⟨rfl, rfl, rfl, rfl, trivial⟩
  refine jr_icmp_eq K (tgt := 29) dX2_lines_22 (by decide) ?_ ?_
  · refine jr_iconst K dX2_lines_29 (v := (nI 0)) (by decide) ?_
    exact jr_weak (hk30 (nI 0)) ⟨rfl, rfl, rfl, trivial⟩
  · refine jr_iconst K dX2_lines_25 (v := (nI 1)) (by decide) ?_
    refine jr_goto K (tgt := 30) dX2_lines_26 (by decide) ?_
    exact jr_weak (hk30 (nI 1)) ⟨rfl, rfl, rfl, trivial⟩
theorem metX2_lines (hG : jG l D S0 A0) {sK : Nat → Nat} (hS : jSt S0 sK) (bc : Nat) (bs : Nat) (this : Nat) (p1 : Int32) (p2 : Int32) (Ex : Nat → Nat → JP) (Qj : Int32 → JP) : vx_Met l yX2_lines (ws_ yX2_lines cX2_lines 6 (some .int)) (jrm 62 bc bs) (va_Pc [.ref this, .int p1, .int p2] (jB D S0 (JX2_lines sK bc bs this p1 p2 Ex Qj))) (va_Qi Qj (fun σ t => jRep D S0.heap.size σ t.heap) (jA S0)) (jXC D S0 Ex) bc bs (jA S0) :=
  jx_start hG (by decide) (by decide) (Nat.le_of_ble_eq_true rfl) rfl fun p e s m below meth c K hr hEx => wX2_lines K sK bc bs this p1 p2 Ex Qj hS hEx (fun _ _ _ _ _ d => jr_xret jx_mq (jr_iret K hr rfl d))
theorem wX2_kind (K : JK p l R s m args meth c D S0 A0 3 cX2_kind "MoveNotes$Reader" 63) (sK : Nat → Nat) (bc : Nat) (bs : Nat) (this : Nat) (p1 : Int32) (p2 : Int32) (Ex : Nat → Nat → JP) (Qj : Nat → JP) (hS : jSt S0 sK) (hEx : jThr p l e R s m args below meth c Q D S0 3 cX2_kind "MoveNotes$Reader" [] Ex) (hret : jRetA p l e R s m args below meth c Q D S0 3 cX2_kind Qj) : JR p l e R s m args below meth c Q D S0 3 bc bs (JX2_kind sK bc bs this p1 p2 Ex Qj) 0 [some (.ref this), some (.int p1), some (.int p2)] [] := by
  unfold JX2_kind
  refine jr_new K in_X12 rfl tyX12_ok dfo12 q846 q847 q113 dX2_kind_0 (fun v0 => ?_)
  refine jr_dup K dX2_kind_3 rfl ?_
  refine jr_iload_n K dX2_kind_4 rfl ?_
  refine jr_aload_n K dX2_kind_5 rfl ?_
  refine jr_getA K gf_X2_31 dX2_kind_6 (fun v6 => ?_)
  refine jr_aload_n K dX2_kind_9 rfl ?_
  refine jr_iload_n K dX2_kind_10 rfl ?_
  refine jr_iconst K dX2_kind_11 (v := (nI 1)) (by decide) ?_
  refine jr_bud (fun mc12 ms12 hmc12 hms12 => ?_)
  refine jrx_calli ⟨hmc12, hms12⟩ (jrunx_V (As := [.int p1, .int (nI 1)]) (st := [.ref v6, .int p2, .ref v0, .ref v0]) (ci := 2) K (metX2_lines K.hG hS mc12 ms12 this p1 (nI 1) Ex _) mtX2_lines mvX2_lines q848 rfl rfl rfl (Nat.le_of_ble_eq_true rfl) (by decide) ⟨hmc12, hms12⟩ dX2_kind_12) (fun x q => hEx.1 _ _ _ _ x q (fun _ h => nomatch h)) (fun v12 => ?_)
  refine jr_bud (fun mc15 ms15 hmc15 hms15 => ?_)
  refine jr_callv ⟨hmc15, hms15⟩ (jrun_I (As := [.int p2, .ref v6, .int v12]) (st := [.ref v0]) K (metX12_init K.hG mc15 ms15 v0 p2 v6 v12 _) mtX12_init q1071 rfl q1070 rfl rfl (Nat.le_of_ble_eq_true rfl) (by decide) ⟨hmc15, hms15⟩ dX2_kind_15) ?_
  exact hret _ _ _ _ _ dX2_kind_18
theorem metX2_kind (hG : jG l D S0 A0) {sK : Nat → Nat} (hS : jSt S0 sK) (bc : Nat) (bs : Nat) (this : Nat) (p1 : Int32) (p2 : Int32) (Ex : Nat → Nat → JP) (Qj : Nat → JP) : vx_Met l yX2_kind (ws_ yX2_kind cX2_kind 3 (some (.object "MoveNotes$Kind"))) (jrm 63 bc bs) (va_Pc [.ref this, .int p1, .int p2] (jB D S0 (JX2_kind sK bc bs this p1 p2 Ex Qj))) (jQr Qj D S0) (jXC D S0 Ex) bc bs (jA S0) :=
  jx_start hG (by decide) (by decide) (Nat.le_of_ble_eq_true rfl) rfl fun p e s m below meth c K hr hEx => wX2_kind K sK bc bs this p1 p2 Ex Qj hS hEx (fun _ _ _ _ _ d => jr_xret jx_mq (jr_aret K hr (Or.inl ⟨_, rfl⟩) d))
theorem wX22_init (K : JK p l R s m args meth c D S0 A0 3 cX22_init "MoveNotes$Measure" 12) (hn : meth.name = "<init>") (bc : Nat) (bs : Nat) (this : Nat) (p1 : Nat) (p2 : Int32) (Qj : JP) (hret : jRetV p l e R s m args below meth c Q D S0 3 cX22_init Qj) : JR p l e R s m args below meth c Q D S0 3 bc bs (JX22_init bc bs this p1 p2 Qj) 0 [some (.ref this), some (.ref p1), some (.int p2)] [] := by
  unfold JX22_init
  refine jr_aload_n K dX22_init_0 rfl ?_
  refine jr_objInit K q1144 dX22_init_1 (by decide) (Nat.le_of_ble_eq_true rfl) ?_
  refine jr_aload_n K dX22_init_4 rfl ?_
  refine jr_iload_n K dX22_init_5 rfl ?_
  refine jr_newA K (by decide) rfl q1145 q161 dX22_init_6 (fun v6 => ?_)
  refine jr_put K (pf_X22_9 hn) dX22_init_9 rfl rfl ?_
  refine jr_aload_n K dX22_init_12 rfl ?_
  refine jr_iconst K dX22_init_13 (v := (nI 0)) (by decide) ?_
  refine jr_aload_n K dX22_init_14 rfl ?_
  refine jr_getA K gf_X22_9 dX22_init_15 (fun v15 => ?_)
  refine jr_iconst K dX22_init_18 (v := (nI 0)) (by decide) ?_
  refine jr_iload_n K dX22_init_19 rfl ?_
  refine jr_cpyA K (by decide) rfl q1146 (by decide) (Nat.le_of_ble_eq_true rfl) dX22_init_20 ?_
  exact hret _ _ _ _ dX22_init_23
theorem metX22_init (hG : jG l D S0 A0) (bc : Nat) (bs : Nat) (this : Nat) (p1 : Nat) (p2 : Int32) (Qj : JP) : Met l yX22_init (ws_ yX22_init cX22_init 3 none) (jrm 12 bc bs) (va_Pc [.ref this, .ref p1, .int p2] (jB D S0 (JX22_init bc bs this p1 p2 Qj))) (va_Qv Qj (fun σ t => jRep D S0.heap.size σ t.heap) (jA S0)) bc bs (jA S0) :=
  jr_start hG (by decide) (Nat.le_of_ble_eq_true rfl) rfl fun p e s m below meth c K hr hn => wX22_init K hn bc bs this p1 p2 Qj (fun _ _ _ _ d => jr_vret K hr d)
theorem wX2_measure (K : JK p l R s m args meth c D S0 A0 2 cX2_measure "MoveNotes$Reader" 63) (sK : Nat → Nat) (bc : Nat) (bs : Nat) (this : Nat) (p1 : Int32) (Ex : Nat → Nat → JP) (Qj : Nat → JP) (hS : jSt S0 sK) (hEx : jThr p l e R s m args below meth c Q D S0 2 cX2_measure "MoveNotes$Reader" [] Ex) (hret : jRetA p l e R s m args below meth c Q D S0 2 cX2_measure Qj) : JR p l e R s m args below meth c Q D S0 2 bc bs (JX2_measure sK bc bs this p1 Ex Qj) 0 [some (.ref this), some (.int p1)] [] := by
  unfold JX2_measure
  refine jr_new K in_X22 rfl tyX22_ok dfo22 q1139 q1140 q130 dX2_measure_0 (fun v0 => ?_)
  refine jr_dup K dX2_measure_3 rfl ?_
  refine jr_aload_n K dX2_measure_4 rfl ?_
  refine jr_getA K gf_X2_37 dX2_measure_5 (fun v5 => ?_)
  refine jr_aload_n K dX2_measure_8 rfl ?_
  refine jr_iload_n K dX2_measure_9 rfl ?_
  refine jr_iconst K dX2_measure_10 (v := (nI 0)) (by decide) ?_
  refine jr_bud (fun mc11 ms11 hmc11 hms11 => ?_)
  refine jrx_calli ⟨hmc11, hms11⟩ (jrunx_V (As := [.int p1, .int (nI 0)]) (st := [.ref v5, .ref v0, .ref v0]) (ci := 2) K (metX2_lines K.hG hS mc11 ms11 this p1 (nI 0) Ex _) mtX2_lines mvX2_lines q848 rfl rfl rfl (Nat.le_of_ble_eq_true rfl) (by decide) ⟨hmc11, hms11⟩ dX2_measure_11) (fun x q => hEx.1 _ _ _ _ x q (fun _ h => nomatch h)) (fun v11 => ?_)
  refine jr_bud (fun mc14 ms14 hmc14 hms14 => ?_)
  refine jr_callv ⟨hmc14, hms14⟩ (jrun_I (As := [.ref v5, .int v11]) (st := [.ref v0]) K (metX22_init K.hG mc14 ms14 v0 v5 v11 _) mtX22_init q1142 rfl q1141 rfl rfl (Nat.le_of_ble_eq_true rfl) (by decide) ⟨hmc14, hms14⟩ dX2_measure_14) ?_
  exact hret _ _ _ _ _ dX2_measure_17
theorem metX2_measure (hG : jG l D S0 A0) {sK : Nat → Nat} (hS : jSt S0 sK) (bc : Nat) (bs : Nat) (this : Nat) (p1 : Int32) (Ex : Nat → Nat → JP) (Qj : Nat → JP) : vx_Met l yX2_measure (ws_ yX2_measure cX2_measure 2 (some (.object "MoveNotes$Measure"))) (jrm 63 bc bs) (va_Pc [.ref this, .int p1] (jB D S0 (JX2_measure sK bc bs this p1 Ex Qj))) (jQr Qj D S0) (jXC D S0 Ex) bc bs (jA S0) :=
  jx_start hG (by decide) (by decide) (Nat.le_of_ble_eq_true rfl) rfl fun p e s m below meth c K hr hEx => wX2_measure K sK bc bs this p1 Ex Qj hS hEx (fun _ _ _ _ _ d => jr_xret jx_mq (jr_aret K hr (Or.inl ⟨_, rfl⟩) d))
theorem wX10_gathers_126 (K : JK p l R s m args meth c D S0 A0 10 cX10_gathers "MoveNotes$Search" 14) (bc bs : Nat) (this : Nat) (p1 : Nat) (p2 : Int32) (p3 : Nat) (x5_6 : Int32) (k167 : Int32 → JP) (hk167 : ∀ (x4_167 : Int32), JR p l e R s m args below meth c Q D S0 10 bc bs (k167 x4_167) 167 [some (.ref this), some (.ref p1), some (.int p2), some (.ref p3), some (.int x4_167), some (.int x5_6), none, none, none, none] []) : ∀ (n : Nat) (x4_126 : Int32) (x6_126 : Int32), JR p l e R s m args below meth c Q D S0 10 bc bs (jit (FX10_gathers_126 this p3 x5_6 k167) (fun _ _ => jbot) n x4_126 x6_126) 126 [some (.ref this), some (.ref p1), some (.int p2), some (.ref p3), some (.int x4_126), some (.int x5_6), some (.int x6_126), none, none, none] [] := by
  intro n
  induction n with
  | zero =>
    intro x4_126 x6_126
    exact JR.bot
  | succ n ih126 =>
    intro x4_126 x6_126
    show JR p l e R s m args below meth c Q D S0 10 bc bs (FX10_gathers_126 this p3 x5_6 k167 (jit (FX10_gathers_126 this p3 x5_6 k167) (fun _ _ => jbot) n) x4_126 x6_126) 126 [some (.ref this), some (.ref p1), some (.int p2), some (.ref p3), some (.int x4_126), some (.int x5_6), some (.int x6_126), none, none, none] []
    generalize jit (FX10_gathers_126 this p3 x5_6 k167) (fun _ _ => jbot) n = rec126 at ih126 ⊢
    unfold FX10_gathers_126
    refine jr_iload K dX10_gathers_126 rfl ?_
    refine jr_bipush K dX10_gathers_128 (v := (nI 36)) (by decide) ?_
    refine jr_icmp_ge K (tgt := 167) dX10_gathers_130 (by decide) ?_ ?_
    · exact jr_weak (hk167 x4_126) ⟨rfl, rfl, rfl, rfl, rfl, rfl, trivial⟩
    · refine jr_aload_n K dX10_gathers_133 rfl ?_
      refine jr_getA K gf_X10_18 dX10_gathers_134 (fun v134 => ?_)
      refine jr_iload K dX10_gathers_137 rfl ?_
      refine jr_zald K dX10_gathers_139 (fun v139 => ?_)
      refine jr_join (fun (k161 : Int32 → JP) => ∀ (x4_161 : Int32), JR p l e R s m args below meth c Q D S0 10 bc bs (k161 x4_161) 161 [some (.ref this), some (.ref p1), some (.int p2), some (.ref p3), some (.int x4_161), some (.int x5_6), some (.int x6_126), none, none, none] []) ?_ (fun k161 hk161 => ?_)
      · intro x4_161
        refine jr_iinc K (v := (x6_126 + (nI 1))) (L' := [some (.ref this), some (.ref p1), some (.int p2), some (.ref p3), some (.int x4_161), some (.int x5_6), some (.int (x6_126 + (nI 1))), none, none, none]) dX10_gathers_161 rfl rfl (by decide) rfl rfl ?_
        refine jr_goto K (tgt := 126) dX10_gathers_164 (by decide) ?_
        exact jr_weak (ih126 x4_161 (x6_126 + (nI 1))) ⟨rfl, rfl, rfl, rfl, rfl, rfl, rfl, trivial⟩
      refine jr_if_ne K (tgt := 146) dX10_gathers_140 (by decide) ?_ ?_
      · refine jr_aload_n K dX10_gathers_146 rfl ?_
        refine jr_iload K dX10_gathers_147 rfl ?_
        refine jr_bipush K dX10_gathers_149 (v := (nI 36)) (by decide) ?_
        refine jr_iload K dX10_gathers_151 rfl ?_
        refine jr_imul K dX10_gathers_153 ?_
        refine jr_iload K dX10_gathers_154 rfl ?_
        refine jr_iadd K dX10_gathers_156 ?_
        refine jr_iast K dX10_gathers_157 ?_
        refine jr_iinc K (v := (x4_126 + (nI 1))) (L' := [some (.ref this), some (.ref p1), some (.int p2), some (.ref p3), some (.int (x4_126 + (nI 1))), some (.int x5_6), some (.int x6_126), none, none, none]) dX10_gathers_158 rfl rfl (by decide) rfl rfl ?_
        exact jr_weak (hk161 (x4_126 + (nI 1))) ⟨rfl, rfl, rfl, rfl, rfl, rfl, rfl, trivial⟩
      · refine jr_goto K (tgt := 161) dX10_gathers_143 (by decide) ?_
        exact jr_weak (hk161 x4_126) ⟨rfl, rfl, rfl, rfl, rfl, rfl, rfl, trivial⟩
theorem wX10_gathers_90 (K : JK p l R s m args meth c D S0 A0 10 cX10_gathers "MoveNotes$Search" 14) (bc bs : Nat) (this : Nat) (p1 : Nat) (p2 : Int32) (p3 : Nat) (x4_6 : Int32) (x5_6 : Int32) (v77 : Nat) (v84 : Int32) (k123 : JP) (hk123 : JR p l e R s m args below meth c Q D S0 10 bc bs k123 123 [some (.ref this), some (.ref p1), some (.int p2), some (.ref p3), some (.int x4_6), some (.int x5_6), none, none, none, none] []) : ∀ (n : Nat) (x8_90 : Int32), JR p l e R s m args below meth c Q D S0 10 bc bs (jit (FX10_gathers_90 this p1 p2 x5_6 v77 v84 k123) (fun _ => jbot) n x8_90) 90 [some (.ref this), some (.ref p1), some (.int p2), some (.ref p3), some (.int x4_6), some (.int x5_6), some (.ref v77), some (.int v84), some (.int x8_90), none] [] := by
  intro n
  induction n with
  | zero =>
    intro x8_90
    exact JR.bot
  | succ n ih90 =>
    intro x8_90
    show JR p l e R s m args below meth c Q D S0 10 bc bs (FX10_gathers_90 this p1 p2 x5_6 v77 v84 k123 (jit (FX10_gathers_90 this p1 p2 x5_6 v77 v84 k123) (fun _ => jbot) n) x8_90) 90 [some (.ref this), some (.ref p1), some (.int p2), some (.ref p3), some (.int x4_6), some (.int x5_6), some (.ref v77), some (.int v84), some (.int x8_90), none] []
    generalize jit (FX10_gathers_90 this p1 p2 x5_6 v77 v84 k123) (fun _ => jbot) n = rec90 at ih90 ⊢
    unfold FX10_gathers_90
    refine jr_iload K dX10_gathers_90 rfl ?_
    refine jr_iload K dX10_gathers_92 rfl ?_
    refine jr_icmp_ge K (tgt := 123) dX10_gathers_94 (by decide) ?_ ?_
    · exact jr_weak (hk123) ⟨rfl, rfl, rfl, rfl, rfl, rfl, trivial⟩
    · refine jr_aload K dX10_gathers_97 rfl ?_
      refine jr_iload K dX10_gathers_99 rfl ?_
      refine jr_aald K (by decide) dX10_gathers_101 (fun v101 => ?_)
      refine jr_astore K (L' := [some (.ref this), some (.ref p1), some (.int p2), some (.ref p3), some (.int x4_6), some (.int x5_6), some (.ref v77), some (.int v84), some (.int x8_90), some (.ref v101)]) dX10_gathers_102 (by decide) rfl rfl ?_
      refine jr_aload K dX10_gathers_104 rfl ?_
      refine jr_aload_n K dX10_gathers_106 rfl ?_
      refine jr_iload K dX10_gathers_107 rfl ?_
      refine jr_iload_n K dX10_gathers_109 rfl ?_
      refine jr_aload_n K dX10_gathers_110 rfl ?_
      refine jr_getA K gf_X10_18 dX10_gathers_111 (fun v111 => ?_)
      refine jr_join (fun (kd114 : JP) => JR p l e R s m args below meth c Q D S0 10 bc bs kd114 117 [some (.ref this), some (.ref p1), some (.int p2), some (.ref p3), some (.int x4_6), some (.int x5_6), some (.ref v77), some (.int v84), some (.int x8_90), some (.ref v101)] []) ?_ (fun kd114 hkd => ?_)
      · refine jr_iinc K (v := (x8_90 + (nI 1))) (L' := [some (.ref this), some (.ref p1), some (.int p2), some (.ref p3), some (.int x4_6), some (.int x5_6), some (.ref v77), some (.int v84), some (.int (x8_90 + (nI 1))), some (.ref v101)]) dX10_gathers_117 rfl rfl (by decide) rfl rfl ?_
        refine jr_goto K (tgt := 90) dX10_gathers_120 (by decide) ?_
        exact jr_weak (ih90 (x8_90 + (nI 1))) ⟨rfl, rfl, rfl, rfl, rfl, rfl, rfl, rfl, rfl, trivial⟩
      exact jr_callv0 (jrun_dispC (jrun_U (As := [.ref p1, .int x5_6, .int p2, .ref v111]) (st := []) (x := ({ cls := "MoveNotes$Going", name := "marks", desc := "(LMoveNotes$Board;II[Z)V" } : Jvm.MethodName)) (ci := 4) K (metX4_marks K.hG v101 p1 x5_6 p2 v111 _) mtX4_marks q689 q675 q677 q676 q688 (by decide) rfl rfl rfl rfl (Nat.le_of_ble_eq_true rfl) (by decide) ⟨Nat.zero_le _, Nat.zero_le _⟩ dX10_gathers_114) (jrun_dispC (jrun_U (As := [.ref p1, .int x5_6, .int p2, .ref v111]) (st := []) (x := ({ cls := "MoveNotes$Going", name := "marks", desc := "(LMoveNotes$Board;II[Z)V" } : Jvm.MethodName)) (ci := 5) K (metX5_marks K.hG v101 p1 x5_6 p2 v111 _) mtX5_marks q686 q675 q677 q676 q685 (by decide) rfl rfl rfl rfl (Nat.le_of_ble_eq_true rfl) (by decide) ⟨Nat.zero_le _, Nat.zero_le _⟩ dX10_gathers_114) (jrun_dispC (jrun_U (As := [.ref p1, .int x5_6, .int p2, .ref v111]) (st := []) (x := ({ cls := "MoveNotes$Going", name := "marks", desc := "(LMoveNotes$Board;II[Z)V" } : Jvm.MethodName)) (ci := 13) K (metX13_marks K.hG v101 p1 x5_6 p2 v111 _) mtX13_marks q700 q675 q677 q676 q699 (by decide) rfl rfl rfl rfl (Nat.le_of_ble_eq_true rfl) (by decide) ⟨Nat.zero_le _, Nat.zero_le _⟩ dX10_gathers_114) (jrun_dispC (jrun_U (As := [.ref p1, .int x5_6, .int p2, .ref v111]) (st := []) (x := ({ cls := "MoveNotes$Going", name := "marks", desc := "(LMoveNotes$Board;II[Z)V" } : Jvm.MethodName)) (ci := 14) K (metX14_marks K.hG v101 p1 x5_6 p2 v111 _) mtX14_marks q695 q675 q677 q676 q694 (by decide) rfl rfl rfl rfl (Nat.le_of_ble_eq_true rfl) (by decide) ⟨Nat.zero_le _, Nat.zero_le _⟩ dX10_gathers_114) (jrun_dispC (jrun_U (As := [.ref p1, .int x5_6, .int p2, .ref v111]) (st := []) (x := ({ cls := "MoveNotes$Going", name := "marks", desc := "(LMoveNotes$Board;II[Z)V" } : Jvm.MethodName)) (ci := 15) K (metX15_marks K.hG v101 p1 x5_6 p2 v111 _) mtX15_marks q679 q675 q677 q676 q678 (by decide) rfl rfl rfl rfl (Nat.le_of_ble_eq_true rfl) (by decide) ⟨Nat.zero_le _, Nat.zero_le _⟩ dX10_gathers_114) jrun_disp0))))) hkd
theorem wX10_gathers_41 (K : JK p l R s m args meth c D S0 A0 10 cX10_gathers "MoveNotes$Search" 14) (bc bs : Nat) (this : Nat) (p1 : Nat) (p2 : Int32) (p3 : Nat) (x4_6 : Int32) (x5_6 : Int32) (k62 : JP) (hk62 : JR p l e R s m args below meth c Q D S0 10 bc bs k62 62 [some (.ref this), some (.ref p1), some (.int p2), some (.ref p3), some (.int x4_6), some (.int x5_6), none, none, none, none] []) : ∀ (n : Nat) (x6_41 : Int32), JR p l e R s m args below meth c Q D S0 10 bc bs (jit (FX10_gathers_41 this k62) (fun _ => jbot) n x6_41) 41 [some (.ref this), some (.ref p1), some (.int p2), some (.ref p3), some (.int x4_6), some (.int x5_6), some (.int x6_41), none, none, none] [] := by
  intro n
  induction n with
  | zero =>
    intro x6_41
    exact JR.bot
  | succ n ih41 =>
    intro x6_41
    show JR p l e R s m args below meth c Q D S0 10 bc bs (FX10_gathers_41 this k62 (jit (FX10_gathers_41 this k62) (fun _ => jbot) n) x6_41) 41 [some (.ref this), some (.ref p1), some (.int p2), some (.ref p3), some (.int x4_6), some (.int x5_6), some (.int x6_41), none, none, none] []
    generalize jit (FX10_gathers_41 this k62) (fun _ => jbot) n = rec41 at ih41 ⊢
    unfold FX10_gathers_41
    refine jr_iload K dX10_gathers_41 rfl ?_
    refine jr_bipush K dX10_gathers_43 (v := (nI 36)) (by decide) ?_
    refine jr_icmp_ge K (tgt := 62) dX10_gathers_45 (by decide) ?_ ?_
    · exact jr_weak (hk62) ⟨rfl, rfl, rfl, rfl, rfl, rfl, trivial⟩
    · refine jr_aload_n K dX10_gathers_48 rfl ?_
      refine jr_getA K gf_X10_18 dX10_gathers_49 (fun v49 => ?_)
      refine jr_iload K dX10_gathers_52 rfl ?_
      refine jr_iconst K dX10_gathers_54 (v := (nI 0)) (by decide) ?_
      refine jr_zast K dX10_gathers_55 ?_
      refine jr_iinc K (v := (x6_41 + (nI 1))) (L' := [some (.ref this), some (.ref p1), some (.int p2), some (.ref p3), some (.int x4_6), some (.int x5_6), some (.int (x6_41 + (nI 1))), none, none, none]) dX10_gathers_56 rfl rfl (by decide) rfl rfl ?_
      refine jr_goto K (tgt := 41) dX10_gathers_59 (by decide) ?_
      exact jr_weak (ih41 (x6_41 + (nI 1))) ⟨rfl, rfl, rfl, rfl, rfl, rfl, rfl, trivial⟩
theorem wX10_gathers_6 (K : JK p l R s m args meth c D S0 A0 10 cX10_gathers "MoveNotes$Search" 14) (bc bs : Nat) (this : Nat) (p1 : Nat) (p2 : Int32) (p3 : Nat) (Qj : Int32 → JP) (hret : jRetI p l e R s m args below meth c Q D S0 10 cX10_gathers Qj) : ∀ (n : Nat) (x4_6 : Int32) (x5_6 : Int32), JR p l e R s m args below meth c Q D S0 10 bc bs (jit (FX10_gathers_6 this p1 p2 p3 Qj) (fun _ _ => jbot) n x4_6 x5_6) 6 [some (.ref this), some (.ref p1), some (.int p2), some (.ref p3), some (.int x4_6), some (.int x5_6), none, none, none, none] [] := by
  intro n
  induction n with
  | zero =>
    intro x4_6 x5_6
    exact JR.bot
  | succ n ih6 =>
    intro x4_6 x5_6
    show JR p l e R s m args below meth c Q D S0 10 bc bs (FX10_gathers_6 this p1 p2 p3 Qj (jit (FX10_gathers_6 this p1 p2 p3 Qj) (fun _ _ => jbot) n) x4_6 x5_6) 6 [some (.ref this), some (.ref p1), some (.int p2), some (.ref p3), some (.int x4_6), some (.int x5_6), none, none, none, none] []
    generalize jit (FX10_gathers_6 this p1 p2 p3 Qj) (fun _ _ => jbot) n = rec6 at ih6 ⊢
    unfold FX10_gathers_6
    refine jr_iload K dX10_gathers_6 rfl ?_
    refine jr_bipush K dX10_gathers_8 (v := (nI 36)) (by decide) ?_
    refine jr_icmp_ge K (tgt := 173) dX10_gathers_10 (by decide) ?_ ?_
    · refine jr_iload K dX10_gathers_173 rfl ?_
      exact hret _ _ _ _ _ dX10_gathers_175
    · refine jr_aload_n K dX10_gathers_13 rfl ?_
      refine jr_getA K gf_X10_58 dX10_gathers_14 (fun v14 => ?_)
      refine jr_iload K dX10_gathers_17 rfl ?_
      refine jr_iald K dX10_gathers_19 (fun v19 => ?_)
      refine jr_iconst K dX10_gathers_20 (v := (-1)) (by decide) ?_
      refine jr_join (fun (k167 : Int32 → JP) => ∀ (x4_167 : Int32), JR p l e R s m args below meth c Q D S0 10 bc bs (k167 x4_167) 167 [some (.ref this), some (.ref p1), some (.int p2), some (.ref p3), some (.int x4_167), some (.int x5_6), none, none, none, none] []) ?_ (fun k167 hk167 => ?_)
      · intro x4_167
        refine jr_iinc K (v := (x5_6 + (nI 1))) (L' := [some (.ref this), some (.ref p1), some (.int p2), some (.ref p3), some (.int x4_167), some (.int (x5_6 + (nI 1))), none, none, none, none]) dX10_gathers_167 rfl rfl (by decide) rfl rfl ?_
        refine jr_goto K (tgt := 6) dX10_gathers_170 (by decide) ?_
        exact jr_weak (ih6 x4_167 (x5_6 + (nI 1))) ⟨rfl, rfl, rfl, rfl, rfl, rfl, trivial⟩
      refine jr_icmp_eq K (tgt := 167) dX10_gathers_21 (by decide) ?_ ?_
      · exact jr_weak (hk167 x4_6) ⟨rfl, rfl, rfl, rfl, rfl, rfl, trivial⟩
      · refine jr_aload_n K dX10_gathers_24 rfl ?_
        refine jr_getA K gf_X10_61 dX10_gathers_25 (fun v25 => ?_)
        refine jr_iload K dX10_gathers_28 rfl ?_
        refine jr_iald K dX10_gathers_30 (fun v30 => ?_)
        refine jr_iload_n K dX10_gathers_31 rfl ?_
        refine jr_icmp_eq K (tgt := 38) dX10_gathers_32 (by decide) ?_ ?_
        · refine jr_iconst K dX10_gathers_38 (v := (nI 0)) (by decide) ?_
          refine jr_istore K (L' := [some (.ref this), some (.ref p1), some (.int p2), some (.ref p3), some (.int x4_6), some (.int x5_6), some (.int (nI 0)), none, none, none]) dX10_gathers_39 (by decide) rfl rfl ?_
          refine jr_ex (fun n41 => ?_)
          refine jr_weak (wX10_gathers_41 K bc bs this p1 p2 p3 x4_6 x5_6 _ ?_ n41 (nI 0)) ⟨rfl, rfl, rfl, rfl, rfl, rfl, rfl, trivial⟩
          · refine jr_aload_n K dX10_gathers_62 rfl ?_
            refine jr_getA K gf_X10_54 dX10_gathers_63 (fun v63 => ?_)
            refine jr_getA K gf_X10_64 dX10_gathers_66 (fun v66 => ?_)
            refine jr_aload_n K dX10_gathers_69 rfl ?_
            refine jr_getA K gf_X10_58 dX10_gathers_70 (fun v70 => ?_)
            refine jr_iload K dX10_gathers_73 rfl ?_
            refine jr_iald K dX10_gathers_75 (fun v75 => ?_)
            refine jr_aald K (by decide) dX10_gathers_76 (fun v76 => ?_)
            refine jr_getA K gf_X10_70 dX10_gathers_77 (fun v77 => ?_)
            refine jr_astore K (L' := [some (.ref this), some (.ref p1), some (.int p2), some (.ref p3), some (.int x4_6), some (.int x5_6), some (.ref v77), none, none, none]) dX10_gathers_80 (by decide) rfl rfl ?_
            refine jr_aload K dX10_gathers_82 rfl ?_
            refine jr_alen K dX10_gathers_84 (fun v84 => ?_)
            refine jr_istore K (L' := [some (.ref this), some (.ref p1), some (.int p2), some (.ref p3), some (.int x4_6), some (.int x5_6), some (.ref v77), some (.int v84), none, none]) dX10_gathers_85 (by decide) rfl rfl ?_
            refine jr_iconst K dX10_gathers_87 (v := (nI 0)) (by decide) ?_
            refine jr_istore K (L' := [some (.ref this), some (.ref p1), some (.int p2), some (.ref p3), some (.int x4_6), some (.int x5_6), some (.ref v77), some (.int v84), some (.int (nI 0)), none]) dX10_gathers_88 (by decide) rfl rfl ?_
            refine jr_ex (fun n90 => ?_)
            refine jr_weak (wX10_gathers_90 K bc bs this p1 p2 p3 x4_6 x5_6 v77 v84 _ ?_ n90 (nI 0)) ⟨rfl, rfl, rfl, rfl, rfl, rfl, rfl, rfl, rfl, trivial⟩
            · refine jr_iconst K dX10_gathers_123 (v := (nI 0)) (by decide) ?_
              refine jr_istore K (L' := [some (.ref this), some (.ref p1), some (.int p2), some (.ref p3), some (.int x4_6), some (.int x5_6), some (.int (nI 0)), none, none, none]) dX10_gathers_124 (by decide) rfl rfl ?_
              refine jr_ex (fun n126 => ?_)
              refine jr_weak (wX10_gathers_126 K bc bs this p1 p2 p3 x5_6 k167 hk167 n126 x4_6 (nI 0)) ⟨rfl, rfl, rfl, rfl, rfl, rfl, rfl, trivial⟩
        · refine jr_goto K (tgt := 167) dX10_gathers_35 (by decide) ?_
          exact jr_weak (hk167 x4_6) ⟨rfl, rfl, rfl, rfl, rfl, rfl, trivial⟩
theorem wX10_gathers (K : JK p l R s m args meth c D S0 A0 10 cX10_gathers "MoveNotes$Search" 14) (bc bs : Nat) (this : Nat) (p1 : Nat) (p2 : Int32) (p3 : Nat) (Qj : Int32 → JP) (hret : jRetI p l e R s m args below meth c Q D S0 10 cX10_gathers Qj) : JR p l e R s m args below meth c Q D S0 10 bc bs (JX10_gathers this p1 p2 p3 Qj) 0 [some (.ref this), some (.ref p1), some (.int p2), some (.ref p3), none, none, none, none, none, none] [] := by
  unfold JX10_gathers
  refine jr_iconst K dX10_gathers_0 (v := (nI 0)) (by decide) ?_
  refine jr_istore K (L' := [some (.ref this), some (.ref p1), some (.int p2), some (.ref p3), some (.int (nI 0)), none, none, none, none, none]) dX10_gathers_1 (by decide) rfl rfl ?_
  refine jr_iconst K dX10_gathers_3 (v := (nI 0)) (by decide) ?_
  refine jr_istore K (L' := [some (.ref this), some (.ref p1), some (.int p2), some (.ref p3), some (.int (nI 0)), some (.int (nI 0)), none, none, none, none]) dX10_gathers_4 (by decide) rfl rfl ?_
  refine jr_ex (fun n6 => ?_)
  refine jr_weak (wX10_gathers_6 K bc bs this p1 p2 p3 Qj hret n6 (nI 0) (nI 0)) ⟨rfl, rfl, rfl, rfl, rfl, rfl, trivial⟩
theorem metX10_gathers (hG : jG l D S0 A0) (this : Nat) (p1 : Nat) (p2 : Int32) (p3 : Nat) (Qj : Int32 → JP) : Met l yX10_gathers (ws_ yX10_gathers cX10_gathers 10 (some .int)) (jrm 14 0 0) (va_Pc [.ref this, .ref p1, .int p2, .ref p3] (jB D S0 (JX10_gathers this p1 p2 p3 Qj))) (va_Qi Qj (fun σ t => jRep D S0.heap.size σ t.heap) (jA S0)) 0 0 (jA S0) :=
  jr_start hG (by decide) (Nat.le_of_ble_eq_true rfl) rfl fun p e s m below meth c K hr hn => wX10_gathers K _ _ this p1 p2 p3 Qj (fun _ _ _ _ _ d => jr_iret K hr rfl d)
theorem wX10_begins_32 (K : JK p l R s m args meth c D S0 A0 4 cX10_begins "MoveNotes$Search" 12) (bc bs : Nat) (this : Nat) (p2 : Int32) (Qj : JP) (hret : jRetV p l e R s m args below meth c Q D S0 4 cX10_begins Qj) : ∀ (n : Nat) (x3_32 : Int32), JR p l e R s m args below meth c Q D S0 4 bc bs (jit (FX10_begins_32 this p2 Qj) (fun _ => jbot) n x3_32) 32 [some (.ref this), none, some (.int p2), some (.int x3_32)] [] := by
  intro n
  induction n with
  | zero =>
    intro x3_32
    exact JR.bot
  | succ n ih32 =>
    intro x3_32
    show JR p l e R s m args below meth c Q D S0 4 bc bs (FX10_begins_32 this p2 Qj (jit (FX10_begins_32 this p2 Qj) (fun _ => jbot) n) x3_32) 32 [some (.ref this), none, some (.int p2), some (.int x3_32)] []
    generalize jit (FX10_begins_32 this p2 Qj) (fun _ => jbot) n = rec32 at ih32 ⊢
    unfold FX10_begins_32
    refine jr_iload_n K dX10_begins_32 rfl ?_
    refine jr_bipush K dX10_begins_33 (v := (nI 7)) (by decide) ?_
    refine jr_icmp_gt K (tgt := 67) dX10_begins_35 (by decide) ?_ ?_
    · exact hret _ _ _ _ dX10_begins_67
    · refine jr_aload_n K dX10_begins_38 rfl ?_
      refine jr_getA K gf_X10_45 dX10_begins_39 (fun v39 => ?_)
      refine jr_iload_n K dX10_begins_42 rfl ?_
      refine jr_iload_n K dX10_begins_43 rfl ?_
      refine jr_join (fun (k60 : Int32 → JP) => ∀ (s2_60 : Int32), JR p l e R s m args below meth c Q D S0 4 bc bs (k60 s2_60) 60 [some (.ref this), none, some (.int p2), some (.int x3_32)] [.int s2_60, .int x3_32, .ref v39]) ?_ (fun k60 hk60 => ?_)
      · intro s2_60
        refine jr_iast K dX10_begins_60 ?_
        refine jr_iinc K (v := (x3_32 + (nI 1))) (L' := [some (.ref this), none, some (.int p2), some (.int (x3_32 + (nI 1)))]) dX10_begins_61 rfl rfl (by decide) rfl rfl ?_
        refine jr_goto K (tgt := 32) dX10_begins_64 (by decide) ?_
        exact jr_weak (ih32 (x3_32 + (nI 1))) ⟨rfl, rfl, rfl, trivial⟩
      refine jr_if_eq K (tgt := 51) dX10_begins_44 (by decide) ?_ ?_
      · refine jr_aload_n K dX10_begins_51 rfl ?_
        refine jr_getA K gf_X10_54 dX10_begins_52 (fun v52 => ?_)
        refine jr_getA K gf_X10_241 dX10_begins_55 (fun v55 => ?_)
        refine jr_iload_n K dX10_begins_58 rfl ?_
        refine jr_iald K dX10_begins_59 (fun v59 => ?_)
        exact jr_weak (hk60 v59) ⟨rfl, rfl, rfl, trivial⟩
      · refine jr_iconst K dX10_begins_47 (v := (nI 0)) (by decide) ?_
        refine jr_goto K (tgt := 60) dX10_begins_48 (by decide) ?_
        exact jr_weak (hk60 (nI 0)) ⟨rfl, rfl, rfl, trivial⟩
theorem wX10_begins (K : JK p l R s m args meth c D S0 A0 4 cX10_begins "MoveNotes$Search" 12) (bc bs : Nat) (this : Nat) (p1 : Int32) (p2 : Int32) (Qj : JP) (hret : jRetV p l e R s m args below meth c Q D S0 4 cX10_begins Qj) : JR p l e R s m args below meth c Q D S0 4 bc bs (JX10_begins this p1 p2 Qj) 0 [some (.ref this), some (.int p1), some (.int p2), none] [] := by
  unfold JX10_begins
  refine jr_aload_n K dX10_begins_0 rfl ?_
  refine jr_iload_n K dX10_begins_1 rfl ?_
  refine jr_put K pf_X10_116 dX10_begins_2 rfl rfl ?_
  refine jr_aload_n K dX10_begins_5 rfl ?_
  refine jr_iload_n K dX10_begins_6 rfl ?_
  refine jr_putZ K pf_X10_122 dX10_begins_7 ?_
  refine jr_aload_n K dX10_begins_10 rfl ?_
  refine jr_iconst K dX10_begins_11 (v := (nI 0)) (by decide) ?_
  refine jr_put K pf_X10_153 dX10_begins_12 rfl rfl ?_
  refine jr_aload_n K dX10_begins_15 rfl ?_
  refine jr_iconst K dX10_begins_16 (v := (nI 0)) (by decide) ?_
  refine jr_put K pf_X10_162 dX10_begins_17 rfl rfl ?_
  refine jr_aload_n K dX10_begins_20 rfl ?_
  refine jr_iconst K dX10_begins_21 (v := (nI 0)) (by decide) ?_
  refine jr_putZ K pf_X10_156 dX10_begins_22 ?_
  refine jr_aload_n K dX10_begins_25 rfl ?_
  refine jr_iconst K dX10_begins_26 (v := (nI 0)) (by decide) ?_
  refine jr_putZ K pf_X10_193 dX10_begins_27 ?_
  refine jr_iconst K dX10_begins_30 (v := (nI 0)) (by decide) ?_
  refine jr_istore_n K (L' := [some (.ref this), some (.int p1), some (.int p2), some (.int (nI 0))]) dX10_begins_31 (by decide) rfl rfl ?_
  refine jr_ex (fun n32 => ?_)
  refine jr_weak (wX10_begins_32 K bc bs this p2 Qj hret n32 (nI 0)) ⟨rfl, rfl, rfl, trivial⟩
theorem metX10_begins (hG : jG l D S0 A0) (this : Nat) (p1 : Int32) (p2 : Int32) (Qj : JP) : Met l yX10_begins (ws_ yX10_begins cX10_begins 4 none) (jrm 12 0 0) (va_Pc [.ref this, .int p1, .int p2] (jB D S0 (JX10_begins this p1 p2 Qj))) (va_Qv Qj (fun σ t => jRep D S0.heap.size σ t.heap) (jA S0)) 0 0 (jA S0) :=
  jr_start hG (by decide) (Nat.le_of_ble_eq_true rfl) rfl fun p e s m below meth c K hr hn => wX10_begins K _ _ this p1 p2 Qj (fun _ _ _ _ d => jr_vret K hr d)
theorem wX10_bars_4 (K : JK p l R s m args meth c D S0 A0 4 cX10_bars "MoveNotes$Search" 13) (bc bs : Nat) (this : Nat) (p1 : Int32) (Qj : Int32 → JP) (hret : jRetZ p l e R s m args below meth c Q D S0 4 cX10_bars Qj) : ∀ (n : Nat) (x2_4 : Int32) (x3_4 : Int32), JR p l e R s m args below meth c Q D S0 4 bc bs (jit (FX10_bars_4 this p1 Qj) (fun _ _ => jbot) n x2_4 x3_4) 4 [some (.ref this), some (.int p1), some (.int x2_4), some (.int x3_4)] [] := by
  intro n
  induction n with
  | zero =>
    intro x2_4 x3_4
    exact JR.bot
  | succ n ih4 =>
    intro x2_4 x3_4
    show JR p l e R s m args below meth c Q D S0 4 bc bs (FX10_bars_4 this p1 Qj (jit (FX10_bars_4 this p1 Qj) (fun _ _ => jbot) n) x2_4 x3_4) 4 [some (.ref this), some (.int p1), some (.int x2_4), some (.int x3_4)] []
    generalize jit (FX10_bars_4 this p1 Qj) (fun _ _ => jbot) n = rec4 at ih4 ⊢
    unfold FX10_bars_4
    refine jr_iload_n K dX10_bars_4 rfl ?_
    refine jr_aload_n K dX10_bars_5 rfl ?_
    refine jr_getA K gf_X10_54 dX10_bars_6 (fun v6 => ?_)
    refine jr_getI K gf_X10_119 dX10_bars_9 (fun v9 => ?_)
    refine jr_icmp_ge K (tgt := 73) dX10_bars_12 (by decide) ?_ ?_
    · refine jr_iload_n K dX10_bars_73 rfl ?_
      exact hret _ _ _ _ _ dX10_bars_74
    · refine jr_aload_n K dX10_bars_15 rfl ?_
      refine jr_getI K gf_X10_122 dX10_bars_16 (fun v16 => ?_)
      refine jr_if_ne K (tgt := 73) dX10_bars_19 (by decide) ?_ ?_
      · refine jr_iload_n K dX10_bars_73 rfl ?_
        exact hret _ _ _ _ _ dX10_bars_74
      · refine jr_iload_n K dX10_bars_22 rfl ?_
        refine jr_join (fun (k66 : Int32 → JP) => ∀ (s0_66 : Int32), JR p l e R s m args below meth c Q D S0 4 bc bs (k66 s0_66) 66 [some (.ref this), some (.int p1), none, some (.int x3_4)] [.int s0_66]) ?_ (fun k66 hk66 => ?_)
        · intro s0_66
          refine jr_istore_n K (L' := [some (.ref this), some (.int p1), some (.int s0_66), some (.int x3_4)]) dX10_bars_66 (by decide) rfl rfl ?_
          refine jr_iinc K (v := (x3_4 + (nI 1))) (L' := [some (.ref this), some (.int p1), some (.int s0_66), some (.int (x3_4 + (nI 1)))]) dX10_bars_67 rfl rfl (by decide) rfl rfl ?_
          refine jr_goto K (tgt := 4) dX10_bars_70 (by decide) ?_
          exact jr_weak (ih4 s0_66 (x3_4 + (nI 1))) ⟨rfl, rfl, rfl, rfl, trivial⟩
        refine jr_join (fun (k61 : JP) => JR p l e R s m args below meth c Q D S0 4 bc bs k61 61 [some (.ref this), some (.int p1), none, some (.int x3_4)] []) ?_ (fun k61 hk61 => ?_)
        · refine jr_iconst K dX10_bars_61 (v := (nI 1)) (by decide) ?_
          refine jr_goto K (tgt := 66) dX10_bars_62 (by decide) ?_
          exact jr_weak (hk66 (nI 1)) ⟨rfl, rfl, rfl, trivial⟩
        refine jr_if_ne K (tgt := 61) dX10_bars_23 (by decide) ?_ ?_
        · exact jr_weak (hk61) ⟨rfl, rfl, rfl, trivial⟩
        · refine jr_aload_n K dX10_bars_26 rfl ?_
          refine jr_getA K gf_X10_54 dX10_bars_27 (fun v27 => ?_)
          refine jr_getA K gf_X10_126 dX10_bars_30 (fun v30 => ?_)
          refine jr_iload_n K dX10_bars_33 rfl ?_
          refine jr_aald K (by decide) dX10_bars_34 (fun v34 => ?_)
          refine jr_getI K gf_X10_130 dX10_bars_35 (fun v35 => ?_)
          refine jr_iload_n K dX10_bars_38 rfl ?_
          refine jr_join (fun (k65 : JP) => JR p l e R s m args below meth c Q D S0 4 bc bs k65 65 [some (.ref this), some (.int p1), none, some (.int x3_4)] []) ?_ (fun k65 hk65 => ?_)
          · refine jr_iconst K dX10_bars_65 (v := (nI 0)) (by decide) ?_
            exact jr_weak (hk66 (nI 0)) ⟨rfl, rfl, rfl, trivial⟩
          refine jr_icmp_ne K (tgt := 65) dX10_bars_39 (by decide) ?_ ?_
          · exact jr_weak (hk65) ⟨rfl, rfl, rfl, trivial⟩
          · refine jr_aload_n K dX10_bars_42 rfl ?_
            refine jr_getA K gf_X10_54 dX10_bars_43 (fun v43 => ?_)
            refine jr_getA K gf_X10_126 dX10_bars_46 (fun v46 => ?_)
            refine jr_iload_n K dX10_bars_49 rfl ?_
            refine jr_aald K (by decide) dX10_bars_50 (fun v50 => ?_)
            refine jr_aload_n K dX10_bars_51 rfl ?_
            refine jr_getA K gf_X10_12 dX10_bars_52 (fun v52 => ?_)
            refine jr_calli0 (jrun_V (As := [.ref v52]) (st := []) (ci := 24) K (metX24_is K.hG v50 v52 _) mtX24_is mvX24_is q632 rfl rfl rfl (Nat.le_of_ble_eq_true rfl) (by decide) ⟨Nat.zero_le _, Nat.zero_le _⟩ dX10_bars_55) (fun v55 => ?_)
            refine jr_if_ne K (tgt := 65) dX10_bars_58 (by decide) ?_ ?_
            · exact jr_weak (hk65) ⟨rfl, rfl, rfl, trivial⟩
            · exact jr_weak (hk61) ⟨rfl, rfl, rfl, trivial⟩
theorem wX10_bars (K : JK p l R s m args meth c D S0 A0 4 cX10_bars "MoveNotes$Search" 13) (bc bs : Nat) (this : Nat) (p1 : Int32) (Qj : Int32 → JP) (hret : jRetZ p l e R s m args below meth c Q D S0 4 cX10_bars Qj) : JR p l e R s m args below meth c Q D S0 4 bc bs (JX10_bars this p1 Qj) 0 [some (.ref this), some (.int p1), none, none] [] := by
  unfold JX10_bars
  refine jr_iconst K dX10_bars_0 (v := (nI 0)) (by decide) ?_
  refine jr_istore_n K (L' := [some (.ref this), some (.int p1), some (.int (nI 0)), none]) dX10_bars_1 (by decide) rfl rfl ?_
  refine jr_iconst K dX10_bars_2 (v := (nI 0)) (by decide) ?_
  refine jr_istore_n K (L' := [some (.ref this), some (.int p1), some (.int (nI 0)), some (.int (nI 0))]) dX10_bars_3 (by decide) rfl rfl ?_
  refine jr_ex (fun n4 => ?_)
  refine jr_weak (wX10_bars_4 K bc bs this p1 Qj hret n4 (nI 0) (nI 0)) ⟨rfl, rfl, rfl, rfl, trivial⟩
theorem metX10_bars (hG : jG l D S0 A0) (this : Nat) (p1 : Int32) (Qj : Int32 → JP) : Met l yX10_bars (ws_ yX10_bars cX10_bars 4 (some .boolean)) (jrm 13 0 0) (va_Pc [.ref this, .int p1] (jB D S0 (JX10_bars this p1 Qj))) (va_Qi Qj (fun σ t => jRep D S0.heap.size σ t.heap) (jA S0)) 0 0 (jA S0) :=
  jr_start hG (by decide) (Nat.le_of_ble_eq_true rfl) rfl fun p e s m below meth c K hr hn => wX10_bars K _ _ this p1 Qj (fun _ _ _ _ _ d => jr_zret K hr d)
theorem wX10_isIn (K : JK p l R s m args meth c D S0 A0 2 cX10_isIn "MoveNotes$Search" 12) (bc bs : Nat) (this : Nat) (p1 : Int32) (Qj : Int32 → JP) (hret : jRetZ p l e R s m args below meth c Q D S0 2 cX10_isIn Qj) : JR p l e R s m args below meth c Q D S0 2 bc bs (JX10_isIn this p1 Qj) 0 [some (.ref this), some (.int p1)] [] := by
  unfold JX10_isIn
  refine jr_aload_n K dX10_isIn_0 rfl ?_
  refine jr_getI K gf_X10_116 dX10_isIn_1 (fun v1 => ?_)
  refine jr_iload_n K dX10_isIn_4 rfl ?_
  refine jr_ishr K dX10_isIn_5 ?_
  refine jr_iconst K dX10_isIn_6 (v := (nI 1)) (by decide) ?_
  refine jr_iand K dX10_isIn_7 ?_
  refine jr_iconst K dX10_isIn_8 (v := (nI 1)) (by decide) ?_
  refine jr_icmp_ne K (tgt := 16) dX10_isIn_9 (by decide) ?_ ?_
  · refine jr_iconst K dX10_isIn_16 (v := (nI 0)) (by decide) ?_
    exact JR.imp (fun _ h => ⟨Or.inl rfl, h⟩) (hret _ _ _ _ _ dX10_isIn_17)
  · refine jr_iconst K dX10_isIn_12 (v := (nI 1)) (by decide) ?_
    refine jr_goto K (tgt := 17) dX10_isIn_13 (by decide) ?_
    exact JR.imp (fun _ h => ⟨Or.inr rfl, h⟩) (hret _ _ _ _ _ dX10_isIn_17)
theorem metX10_isIn (hG : jG l D S0 A0) (this : Nat) (p1 : Int32) (Qj : Int32 → JP) : Met l yX10_isIn (ws_ yX10_isIn cX10_isIn 2 (some .boolean)) (jrm 12 0 0) (va_Pc [.ref this, .int p1] (jB D S0 (JX10_isIn this p1 Qj))) (va_Qi Qj (fun σ t => jRep D S0.heap.size σ t.heap) (jA S0)) 0 0 (jA S0) :=
  jr_start hG (by decide) (Nat.le_of_ble_eq_true rfl) rfl fun p e s m below meth c K hr hn => wX10_isIn K _ _ this p1 Qj (fun _ _ _ _ _ d => jr_zret K hr d)
theorem wX10_isReading_79 (K : JK p l R s m args meth c D S0 A0 4 cX10_isReading "MoveNotes$Search" 13) (bc bs : Nat) (this : Nat) (p1 : Int32) (k137 : Int32 → JP) (hk137 : ∀ (y2_137 : Int32), JR p l e R s m args below meth c Q D S0 4 bc bs (k137 y2_137) 137 [some (.ref this), none, some (.int y2_137), none] []) : ∀ (n : Nat) (x2_79 : Int32) (x3_79 : Int32), JR p l e R s m args below meth c Q D S0 4 bc bs (jit (FX10_isReading_79 this p1 k137) (fun _ _ => jbot) n x2_79 x3_79) 79 [some (.ref this), some (.int p1), some (.int x2_79), some (.int x3_79)] [] := by
  intro n
  induction n with
  | zero =>
    intro x2_79 x3_79
    exact JR.bot
  | succ n ih79 =>
    intro x2_79 x3_79
    show JR p l e R s m args below meth c Q D S0 4 bc bs (FX10_isReading_79 this p1 k137 (jit (FX10_isReading_79 this p1 k137) (fun _ _ => jbot) n) x2_79 x3_79) 79 [some (.ref this), some (.int p1), some (.int x2_79), some (.int x3_79)] []
    generalize jit (FX10_isReading_79 this p1 k137) (fun _ _ => jbot) n = rec79 at ih79 ⊢
    unfold FX10_isReading_79
    refine jr_iload_n K dX10_isReading_79 rfl ?_
    refine jr_aload_n K dX10_isReading_80 rfl ?_
    refine jr_getA K gf_X10_54 dX10_isReading_81 (fun v81 => ?_)
    refine jr_getI K gf_X10_141 dX10_isReading_84 (fun v84 => ?_)
    refine jr_icmp_ge K (tgt := 137) dX10_isReading_87 (by decide) ?_ ?_
    · exact jr_weak (hk137 x2_79) ⟨rfl, rfl, trivial⟩
    · refine jr_aload_n K dX10_isReading_90 rfl ?_
      refine jr_iload_n K dX10_isReading_91 rfl ?_
      refine jr_calli0 (jrun_V (As := [.int x3_79]) (st := []) (ci := 10) K (metX10_isIn K.hG this x3_79 _) mtX10_isIn mvX10_isIn q643 rfl rfl rfl (Nat.le_of_ble_eq_true rfl) (by decide) ⟨Nat.zero_le _, Nat.zero_le _⟩ dX10_isReading_92) (fun v92 => ?_)
      refine jr_join (fun (k130 : Int32 → JP) => ∀ (s0_130 : Int32), JR p l e R s m args below meth c Q D S0 4 bc bs (k130 s0_130) 130 [some (.ref this), some (.int p1), none, some (.int x3_79)] [.int s0_130]) ?_ (fun k130 hk130 => ?_)
      · intro s0_130
        refine jr_istore_n K (L' := [some (.ref this), some (.int p1), some (.int s0_130), some (.int x3_79)]) dX10_isReading_130 (by decide) rfl rfl ?_
        refine jr_iinc K (v := (x3_79 + (nI 1))) (L' := [some (.ref this), some (.int p1), some (.int s0_130), some (.int (x3_79 + (nI 1)))]) dX10_isReading_131 rfl rfl (by decide) rfl rfl ?_
        refine jr_goto K (tgt := 79) dX10_isReading_134 (by decide) ?_
        exact jr_weak (ih79 s0_130 (x3_79 + (nI 1))) ⟨rfl, rfl, rfl, rfl, trivial⟩
      refine jr_if_eq K (tgt := 129) dX10_isReading_95 (by decide) ?_ ?_
      · refine jr_iload_n K dX10_isReading_129 rfl ?_
        exact jr_weak (hk130 x2_79) ⟨rfl, rfl, rfl, trivial⟩
      · refine jr_ldc K (v := (nI 1000000)) q623 (by decide) dX10_isReading_98 ?_
        refine jr_iload_n K dX10_isReading_100 rfl ?_
        refine jr_aload_n K dX10_isReading_101 rfl ?_
        refine jr_getA K gf_X10_29 dX10_isReading_102 (fun v102 => ?_)
        refine jr_iload_n K dX10_isReading_105 rfl ?_
        refine jr_aald K (by decide) dX10_isReading_106 (fun v106 => ?_)
        refine jr_iload_n K dX10_isReading_107 rfl ?_
        refine jr_aald K (by decide) dX10_isReading_108 (fun v108 => ?_)
        refine jr_aload_n K dX10_isReading_109 rfl ?_
        refine jr_getA K gf_X10_54 dX10_isReading_110 (fun v110 => ?_)
        refine jr_getA K gf_X10_147 dX10_isReading_113 (fun v113 => ?_)
        refine jr_iload_n K dX10_isReading_116 rfl ?_
        refine jr_aald K (by decide) dX10_isReading_117 (fun v117 => ?_)
        refine jr_getI K gf_X10_99 dX10_isReading_118 (fun v118 => ?_)
        refine jr_iald K dX10_isReading_121 (fun v121 => ?_)
        refine jr_iadd K dX10_isReading_122 ?_
        refine jr_min K q647 (by decide) (Nat.le_of_ble_eq_true rfl) dX10_isReading_123 ?_
        refine jr_goto K (tgt := 130) dX10_isReading_126 (by decide) ?_
        exact jr_weak (hk130 (jmin (nI 1000000) (x2_79 + v121))) ⟨rfl, rfl, rfl, trivial⟩
theorem wX10_isReading_33 (K : JK p l R s m args meth c D S0 A0 4 cX10_isReading "MoveNotes$Search" 13) (bc bs : Nat) (this : Nat) (p1 : Int32) (Qj : Int32 → JP) (k75 : JP) (hret : jRetZ p l e R s m args below meth c Q D S0 4 cX10_isReading Qj) (hk75 : JR p l e R s m args below meth c Q D S0 4 bc bs k75 75 [some (.ref this), some (.int p1), none, none] []) : ∀ (n : Nat) (x2_33 : Int32), JR p l e R s m args below meth c Q D S0 4 bc bs (jit (FX10_isReading_33 this p1 Qj k75) (fun _ => jbot) n x2_33) 33 [some (.ref this), some (.int p1), some (.int x2_33), none] [] := by
  intro n
  induction n with
  | zero =>
    intro x2_33
    exact JR.bot
  | succ n ih33 =>
    intro x2_33
    show JR p l e R s m args below meth c Q D S0 4 bc bs (FX10_isReading_33 this p1 Qj k75 (jit (FX10_isReading_33 this p1 Qj k75) (fun _ => jbot) n) x2_33) 33 [some (.ref this), some (.int p1), some (.int x2_33), none] []
    generalize jit (FX10_isReading_33 this p1 Qj k75) (fun _ => jbot) n = rec33 at ih33 ⊢
    unfold FX10_isReading_33
    refine jr_iload_n K dX10_isReading_33 rfl ?_
    refine jr_aload_n K dX10_isReading_34 rfl ?_
    refine jr_getA K gf_X10_54 dX10_isReading_35 (fun v35 => ?_)
    refine jr_getI K gf_X10_119 dX10_isReading_38 (fun v38 => ?_)
    refine jr_icmp_ge K (tgt := 75) dX10_isReading_41 (by decide) ?_ ?_
    · exact jr_weak (hk75) ⟨rfl, rfl, trivial⟩
    · refine jr_aload_n K dX10_isReading_44 rfl ?_
      refine jr_getI K gf_X10_122 dX10_isReading_45 (fun v45 => ?_)
      refine jr_if_ne K (tgt := 75) dX10_isReading_48 (by decide) ?_ ?_
      · exact jr_weak (hk75) ⟨rfl, rfl, trivial⟩
      · refine jr_aload_n K dX10_isReading_51 rfl ?_
        refine jr_getA K gf_X10_54 dX10_isReading_52 (fun v52 => ?_)
        refine jr_getA K gf_X10_126 dX10_isReading_55 (fun v55 => ?_)
        refine jr_iload_n K dX10_isReading_58 rfl ?_
        refine jr_aald K (by decide) dX10_isReading_59 (fun v59 => ?_)
        refine jr_getI K gf_X10_130 dX10_isReading_60 (fun v60 => ?_)
        refine jr_iload_n K dX10_isReading_63 rfl ?_
        refine jr_icmp_le K (tgt := 69) dX10_isReading_64 (by decide) ?_ ?_
        · refine jr_iinc K (v := (x2_33 + (nI 1))) (L' := [some (.ref this), some (.int p1), some (.int (x2_33 + (nI 1))), none]) dX10_isReading_69 rfl rfl (by decide) rfl rfl ?_
          refine jr_goto K (tgt := 33) dX10_isReading_72 (by decide) ?_
          exact jr_weak (ih33 (x2_33 + (nI 1))) ⟨rfl, rfl, rfl, trivial⟩
        · refine jr_iconst K dX10_isReading_67 (v := (nI 0)) (by decide) ?_
          exact JR.imp (fun _ h => ⟨Or.inl rfl, h⟩) (hret _ _ _ _ _ dX10_isReading_68)
theorem wX10_isReading (K : JK p l R s m args meth c D S0 A0 4 cX10_isReading "MoveNotes$Search" 13) (bc bs : Nat) (this : Nat) (p1 : Int32) (Qj : Int32 → JP) (hret : jRetZ p l e R s m args below meth c Q D S0 4 cX10_isReading Qj) : JR p l e R s m args below meth c Q D S0 4 bc bs (JX10_isReading this p1 Qj) 0 [some (.ref this), some (.int p1), none, none] [] := by
  unfold JX10_isReading
  refine jr_aload_n K dX10_isReading_0 rfl ?_
  refine jr_getI K gf_X10_122 dX10_isReading_1 (fun v1 => ?_)
  refine jr_join (fun (k31 : JP) => JR p l e R s m args below meth c Q D S0 4 bc bs k31 31 [some (.ref this), some (.int p1), none, none] []) ?_ (fun k31 hk31 => ?_)
  · refine jr_iconst K dX10_isReading_31 (v := (nI 0)) (by decide) ?_
    refine jr_istore_n K (L' := [some (.ref this), some (.int p1), some (.int (nI 0)), none]) dX10_isReading_32 (by decide) rfl rfl ?_
    refine jr_ex (fun n33 => ?_)
    refine jr_weak (wX10_isReading_33 K bc bs this p1 Qj _ hret ?_ n33 (nI 0)) ⟨rfl, rfl, rfl, trivial⟩
    · refine jr_iconst K dX10_isReading_75 (v := (nI 0)) (by decide) ?_
      refine jr_istore_n K (L' := [some (.ref this), some (.int p1), some (.int (nI 0)), none]) dX10_isReading_76 (by decide) rfl rfl ?_
      refine jr_iconst K dX10_isReading_77 (v := (nI 0)) (by decide) ?_
      refine jr_istore_n K (L' := [some (.ref this), some (.int p1), some (.int (nI 0)), some (.int (nI 0))]) dX10_isReading_78 (by decide) rfl rfl ?_
      refine jr_ex (fun n79 => ?_)
      refine jr_weak (wX10_isReading_79 K bc bs this p1 _ ?_ n79 (nI 0) (nI 0)) ⟨rfl, rfl, rfl, rfl, trivial⟩
      · intro y2_137
        refine jr_iload_n K dX10_isReading_137 rfl ?_
        refine jr_aload_n K dX10_isReading_138 rfl ?_
        refine jr_getI K gf_X10_150 dX10_isReading_139 (fun v139 => ?_)
        refine jr_icmp_ne K (tgt := 149) dX10_isReading_142 (by decide) ?_ ?_
        · refine jr_iconst K dX10_isReading_149 (v := (nI 0)) (by decide) ?_
          exact JR.imp (fun _ h => ⟨Or.inl rfl, h⟩) (hret _ _ _ _ _ dX10_isReading_150)
        · refine jr_iconst K dX10_isReading_145 (v := (nI 1)) (by decide) ?_
          refine jr_goto K (tgt := 150) dX10_isReading_146 (by decide) ?_
          exact JR.imp (fun _ h => ⟨Or.inr rfl, h⟩) (hret _ _ _ _ _ dX10_isReading_150)
  refine jr_if_ne K (tgt := 31) dX10_isReading_4 (by decide) ?_ ?_
  · exact jr_weak (hk31) ⟨rfl, rfl, trivial⟩
  · refine jr_aload_n K dX10_isReading_7 rfl ?_
    refine jr_getA K gf_X10_54 dX10_isReading_8 (fun v8 => ?_)
    refine jr_getI K gf_X10_138 dX10_isReading_11 (fun v11 => ?_)
    refine jr_iconst K dX10_isReading_14 (v := (-1)) (by decide) ?_
    refine jr_icmp_eq K (tgt := 31) dX10_isReading_15 (by decide) ?_ ?_
    · exact jr_weak (hk31) ⟨rfl, rfl, trivial⟩
    · refine jr_aload_n K dX10_isReading_18 rfl ?_
      refine jr_getA K gf_X10_54 dX10_isReading_19 (fun v19 => ?_)
      refine jr_getI K gf_X10_138 dX10_isReading_22 (fun v22 => ?_)
      refine jr_iload_n K dX10_isReading_25 rfl ?_
      refine jr_icmp_eq K (tgt := 31) dX10_isReading_26 (by decide) ?_ ?_
      · exact jr_weak (hk31) ⟨rfl, rfl, trivial⟩
      · refine jr_iconst K dX10_isReading_29 (v := (nI 0)) (by decide) ?_
        exact JR.imp (fun _ h => ⟨Or.inl rfl, h⟩) (hret _ _ _ _ _ dX10_isReading_30)
theorem metX10_isReading (hG : jG l D S0 A0) (this : Nat) (p1 : Int32) (Qj : Int32 → JP) : Met l yX10_isReading (ws_ yX10_isReading cX10_isReading 4 (some .boolean)) (jrm 13 0 0) (va_Pc [.ref this, .int p1] (jB D S0 (JX10_isReading this p1 Qj))) (va_Qi Qj (fun σ t => jRep D S0.heap.size σ t.heap) (jA S0)) 0 0 (jA S0) :=
  jr_start hG (by decide) (Nat.le_of_ble_eq_true rfl) rfl fun p e s m below meth c K hr hn => wX10_isReading K _ _ this p1 Qj (fun _ _ _ _ _ d => jr_zret K hr d)
theorem wX10_isTaken_23 (K : JK p l R s m args meth c D S0 A0 6 cX10_isTaken "MoveNotes$Search" 15) (bc bs : Nat) (this : Nat) (p1 : Int32) (Qj : Int32 → JP) (v13 : Int32) (hret : jRetZ p l e R s m args below meth c Q D S0 6 cX10_isTaken Qj) : ∀ (n : Nat) (x4_23 : Int32) (x5_23 : Int32), JR p l e R s m args below meth c Q D S0 6 bc bs (jit (FX10_isTaken_23 this p1 Qj v13) (fun _ _ => jbot) n x4_23 x5_23) 23 [some (.ref this), some (.int p1), none, some (.int v13), some (.int x4_23), some (.int x5_23)] [] := by
  intro n
  induction n with
  | zero =>
    intro x4_23 x5_23
    exact JR.bot
  | succ n ih23 =>
    intro x4_23 x5_23
    show JR p l e R s m args below meth c Q D S0 6 bc bs (FX10_isTaken_23 this p1 Qj v13 (jit (FX10_isTaken_23 this p1 Qj v13) (fun _ _ => jbot) n) x4_23 x5_23) 23 [some (.ref this), some (.int p1), none, some (.int v13), some (.int x4_23), some (.int x5_23)] []
    generalize jit (FX10_isTaken_23 this p1 Qj v13) (fun _ _ => jbot) n = rec23 at ih23 ⊢
    unfold FX10_isTaken_23
    refine jr_iload K dX10_isTaken_23 rfl ?_
    refine jr_iload_n K dX10_isTaken_25 rfl ?_
    refine jr_icmp_ge K (tgt := 64) dX10_isTaken_26 (by decide) ?_ ?_
    · refine jr_iload K dX10_isTaken_64 rfl ?_
      exact hret _ _ _ _ _ dX10_isTaken_66
    · refine jr_iload K dX10_isTaken_29 rfl ?_
      refine jr_join (fun (k56 : Int32 → JP) => ∀ (s0_56 : Int32), JR p l e R s m args below meth c Q D S0 6 bc bs (k56 s0_56) 56 [some (.ref this), some (.int p1), none, some (.int v13), none, some (.int x5_23)] [.int s0_56]) ?_ (fun k56 hk56 => ?_)
      · intro s0_56
        refine jr_istore K (L' := [some (.ref this), some (.int p1), none, some (.int v13), some (.int s0_56), some (.int x5_23)]) dX10_isTaken_56 (by decide) rfl rfl ?_
        refine jr_iinc K (v := (x5_23 + (nI 1))) (L' := [some (.ref this), some (.int p1), none, some (.int v13), some (.int s0_56), some (.int (x5_23 + (nI 1)))]) dX10_isTaken_58 rfl rfl (by decide) rfl rfl ?_
        refine jr_goto K (tgt := 23) dX10_isTaken_61 (by decide) ?_
        exact jr_weak (ih23 s0_56 (x5_23 + (nI 1))) ⟨rfl, rfl, rfl, rfl, rfl, trivial⟩
      refine jr_join (fun (k51 : JP) => JR p l e R s m args below meth c Q D S0 6 bc bs k51 51 [some (.ref this), some (.int p1), none, some (.int v13), none, some (.int x5_23)] []) ?_ (fun k51 hk51 => ?_)
      · refine jr_iconst K dX10_isTaken_51 (v := (nI 1)) (by decide) ?_
        refine jr_goto K (tgt := 56) dX10_isTaken_52 (by decide) ?_
        exact jr_weak (hk56 (nI 1)) ⟨rfl, rfl, rfl, rfl, trivial⟩
      refine jr_if_ne K (tgt := 51) dX10_isTaken_31 (by decide) ?_ ?_
      · exact jr_weak (hk51) ⟨rfl, rfl, rfl, rfl, trivial⟩
      · refine jr_aload_n K dX10_isTaken_34 rfl ?_
        refine jr_getA K gf_X10_24 dX10_isTaken_35 (fun v35 => ?_)
        refine jr_bipush K dX10_isTaken_38 (v := (nI 30)) (by decide) ?_
        refine jr_aald K (by decide) dX10_isTaken_40 (fun v40 => ?_)
        refine jr_iload K dX10_isTaken_41 rfl ?_
        refine jr_iald K dX10_isTaken_43 (fun v43 => ?_)
        refine jr_bipush K dX10_isTaken_44 (v := (nI 36)) (by decide) ?_
        refine jr_irem K dX10_isTaken_46 (by decide) ?_
        refine jr_iload_n K dX10_isTaken_47 rfl ?_
        refine jr_icmp_ne K (tgt := 55) dX10_isTaken_48 (by decide) ?_ ?_
        · refine jr_iconst K dX10_isTaken_55 (v := (nI 0)) (by decide) ?_
          exact jr_weak (hk56 (nI 0)) ⟨rfl, rfl, rfl, rfl, trivial⟩
        · exact jr_weak (hk51) ⟨rfl, rfl, rfl, rfl, trivial⟩
theorem wX10_isTaken (K : JK p l R s m args meth c D S0 A0 6 cX10_isTaken "MoveNotes$Search" 15) (bc bs : Nat) (this : Nat) (p1 : Int32) (p2 : Int32) (Qj : Int32 → JP) (hret : jRetZ p l e R s m args below meth c Q D S0 6 cX10_isTaken Qj) : JR p l e R s m args below meth c Q D S0 6 bc bs (JX10_isTaken this p1 p2 Qj) 0 [some (.ref this), some (.int p1), some (.int p2), none, none, none] [] := by
  unfold JX10_isTaken
  refine jr_aload_n K dX10_isTaken_0 rfl ?_
  refine jr_aload_n K dX10_isTaken_1 rfl ?_
  refine jr_getA K gf_X10_51 dX10_isTaken_2 (fun v2 => ?_)
  refine jr_iload_n K dX10_isTaken_5 rfl ?_
  refine jr_aload_n K dX10_isTaken_6 rfl ?_
  refine jr_getA K gf_X10_24 dX10_isTaken_7 (fun v7 => ?_)
  refine jr_bipush K dX10_isTaken_10 (v := (nI 30)) (by decide) ?_
  refine jr_aald K (by decide) dX10_isTaken_12 (fun v12 => ?_)
  refine jr_calli0 (jrun_V (As := [.ref v2, .int p2, .ref v12]) (st := []) (ci := 10) K (metX10_gathers K.hG this v2 p2 v12 _) mtX10_gathers mvX10_gathers q671 rfl rfl rfl (Nat.le_of_ble_eq_true rfl) (by decide) ⟨Nat.zero_le _, Nat.zero_le _⟩ dX10_isTaken_13) (fun v13 => ?_)
  refine jr_istore_n K (L' := [some (.ref this), some (.int p1), some (.int p2), some (.int v13), none, none]) dX10_isTaken_16 (by decide) rfl rfl ?_
  refine jr_iconst K dX10_isTaken_17 (v := (nI 0)) (by decide) ?_
  refine jr_istore K (L' := [some (.ref this), some (.int p1), some (.int p2), some (.int v13), some (.int (nI 0)), none]) dX10_isTaken_18 (by decide) rfl rfl ?_
  refine jr_iconst K dX10_isTaken_20 (v := (nI 0)) (by decide) ?_
  refine jr_istore K (L' := [some (.ref this), some (.int p1), some (.int p2), some (.int v13), some (.int (nI 0)), some (.int (nI 0))]) dX10_isTaken_21 (by decide) rfl rfl ?_
  refine jr_ex (fun n23 => ?_)
  refine jr_weak (wX10_isTaken_23 K bc bs this p1 Qj v13 hret n23 (nI 0) (nI 0)) ⟨rfl, rfl, rfl, rfl, rfl, trivial⟩
theorem metX10_isTaken (hG : jG l D S0 A0) (this : Nat) (p1 : Int32) (p2 : Int32) (Qj : Int32 → JP) : Met l yX10_isTaken (ws_ yX10_isTaken cX10_isTaken 6 (some .boolean)) (jrm 15 0 0) (va_Pc [.ref this, .int p1, .int p2] (jB D S0 (JX10_isTaken this p1 p2 Qj))) (va_Qi Qj (fun σ t => jRep D S0.heap.size σ t.heap) (jA S0)) 0 0 (jA S0) :=
  jr_start hG (by decide) (Nat.le_of_ble_eq_true rfl) rfl fun p e s m below meth c K hr hn => wX10_isTaken K _ _ this p1 p2 Qj (fun _ _ _ _ _ d => jr_zret K hr d)
theorem wX20_holds (K : JK p l R s m args meth c D S0 A0 2 cX20_holds "MoveNotes$Less" 13) (bc bs : Nat) (this : Nat) (p1 : Nat) (Qj : Int32 → JP) (hret : jRetZ p l e R s m args below meth c Q D S0 2 cX20_holds Qj) : JR p l e R s m args below meth c Q D S0 2 bc bs (JX20_holds this p1 Qj) 0 [some (.ref this), some (.ref p1)] [] := by
  unfold JX20_holds
  refine jr_aload_n K dX20_holds_0 rfl ?_
  refine jr_getA K gf_X20_7 dX20_holds_1 (fun v1 => ?_)
  refine jr_aload_n K dX20_holds_4 rfl ?_
  refine jr_calli0 (jrun_V (As := [.ref p1]) (st := []) (ci := 19) K (metX19_of K.hG v1 p1 _) mtX19_of mvX19_of q730 rfl rfl rfl (Nat.le_of_ble_eq_true rfl) (by decide) ⟨Nat.zero_le _, Nat.zero_le _⟩ dX20_holds_5) (fun v5 => ?_)
  refine jr_aload_n K dX20_holds_8 rfl ?_
  refine jr_getA K gf_X20_13 dX20_holds_9 (fun v9 => ?_)
  refine jr_aload_n K dX20_holds_12 rfl ?_
  refine jr_calli0 (jrun_V (As := [.ref p1]) (st := [.int v5]) (ci := 19) K (metX19_of K.hG v9 p1 _) mtX19_of mvX19_of q730 rfl rfl rfl (Nat.le_of_ble_eq_true rfl) (by decide) ⟨Nat.zero_le _, Nat.zero_le _⟩ dX20_holds_13) (fun v13 => ?_)
  refine jr_icmp_ge K (tgt := 23) dX20_holds_16 (by decide) ?_ ?_
  · refine jr_iconst K dX20_holds_23 (v := (nI 0)) (by decide) ?_
    exact JR.imp (fun _ h => ⟨Or.inl rfl, h⟩) (hret _ _ _ _ _ dX20_holds_24)
  · refine jr_iconst K dX20_holds_19 (v := (nI 1)) (by decide) ?_
    refine jr_goto K (tgt := 24) dX20_holds_20 (by decide) ?_
    exact JR.imp (fun _ h => ⟨Or.inr rfl, h⟩) (hret _ _ _ _ _ dX20_holds_24)
theorem metX20_holds (hG : jG l D S0 A0) (this : Nat) (p1 : Nat) (Qj : Int32 → JP) : Met l yX20_holds (ws_ yX20_holds cX20_holds 2 (some .boolean)) (jrm 13 0 0) (va_Pc [.ref this, .ref p1] (jB D S0 (JX20_holds this p1 Qj))) (va_Qi Qj (fun σ t => jRep D S0.heap.size σ t.heap) (jA S0)) 0 0 (jA S0) :=
  jr_start hG (by decide) (Nat.le_of_ble_eq_true rfl) rfl fun p e s m below meth c K hr hn => wX20_holds K _ _ this p1 Qj (fun _ _ _ _ _ d => jr_zret K hr d)
theorem wX17_holds_2 (nf : Nat) (K : JK p l R s m args meth c D S0 A0 3 cX17_holds "MoveNotes$Chain" (13 + (nf + 1))) (bc bs : Nat) (rJX17_holds : Nat → Nat → (Int32 → JP) → JP) (rJX21_holds : Nat → Nat → (Int32 → JP) → JP) (this : Nat) (p1 : Nat) (Qj : Int32 → JP) (k44 : JP) (k23 : JP) (ihJX17_holds : ∀ (this : Nat) (p1 : Nat) (Qj : (Int32 → JP)), Met l yX17_holds (ws_ yX17_holds cX17_holds 3 (some .boolean)) (jrm (13 + nf) 0 0) (va_Pc [.ref this, .ref p1] (jB D S0 (rJX17_holds this p1 Qj))) (va_Qi Qj (fun σ t => jRep D S0.heap.size σ t.heap) (jA S0)) 0 0 (jA S0)) (ihJX21_holds : ∀ (this : Nat) (p1 : Nat) (Qj : (Int32 → JP)), Met l yX21_holds (ws_ yX21_holds cX21_holds 2 (some .boolean)) (jrm (13 + nf) 0 0) (va_Pc [.ref this, .ref p1] (jB D S0 (rJX21_holds this p1 Qj))) (va_Qi Qj (fun σ t => jRep D S0.heap.size σ t.heap) (jA S0)) 0 0 (jA S0)) (hk44 : JR p l e R s m args below meth c Q D S0 3 bc bs k44 44 [some (.ref this), none, none] []) (hk23 : JR p l e R s m args below meth c Q D S0 3 bc bs k23 23 [some (.ref this), none, none] []) : ∀ (n : Nat) (x2_2 : Option Nat), JR p l e R s m args below meth c Q D S0 3 bc bs (jit (FX17_holds_2 rJX17_holds rJX21_holds this p1 k44 k23) (fun _ => jbot) n x2_2) 2 [some (.ref this), some (.ref p1), some (va_rf x2_2)] [] := by
  intro n
  induction n with
  | zero =>
    intro x2_2
    exact JR.bot
  | succ n ih2 =>
    intro x2_2
    show JR p l e R s m args below meth c Q D S0 3 bc bs (FX17_holds_2 rJX17_holds rJX21_holds this p1 k44 k23 (jit (FX17_holds_2 rJX17_holds rJX21_holds this p1 k44 k23) (fun _ => jbot) n) x2_2) 2 [some (.ref this), some (.ref p1), some (va_rf x2_2)] []
    generalize jit (FX17_holds_2 rJX17_holds rJX21_holds this p1 k44 k23) (fun _ => jbot) n = rec2 at ih2 ⊢
    unfold FX17_holds_2
    refine jr_oload_n K dX17_holds_2 rfl ?_
    refine jr_ifnull K (tgt := 44) dX17_holds_3 (by decide) (fun hnul => ?_) (fun hnul => ?_)
    · exact jr_weak (hk44) ⟨rfl, trivial⟩
    · refine jr_oload_n K dX17_holds_6 rfl ?_
      refine jr_some (fun u7 hs7 => ?_)
      subst hs7
      refine jr_getA K gf_X17_7 dX17_holds_7 (fun v7 => ?_)
      refine jr_aload_n K dX17_holds_10 rfl ?_
      refine jr_join (fun (kd11 : Int32 → JP) => ∀ v11 : Int32, JR p l e R s m args below meth c Q D S0 3 bc bs (kd11 v11) 16 [some (.ref this), some (.ref p1), some (.ref u7)] [.int v11]) (fun v11 => ?_) (fun kd11 hkd => ?_)
      · refine jr_aload_n K dX17_holds_16 rfl ?_
        refine jr_getI K gf_X17_13 dX17_holds_17 (fun v17 => ?_)
        refine jr_icmp_eq K (tgt := 36) dX17_holds_20 (by decide) ?_ ?_
        · refine jr_aload_n K dX17_holds_36 rfl ?_
          refine jr_getO K gf_X17_23 dX17_holds_37 (fun v37 => ?_)
          refine jr_ostore_n K (L' := [some (.ref this), some (.ref p1), some (va_rf v37)]) dX17_holds_40 (by decide) rfl rfl ?_
          refine jr_goto K (tgt := 2) dX17_holds_41 (by decide) ?_
          exact jr_weak (ih2 v37) ⟨rfl, rfl, rfl, trivial⟩
        · exact jr_weak (hk23) ⟨rfl, trivial⟩
      exact jr_callFi0 (jrun5_dispC (jrun_F (As := [.ref p1]) (st := []) (x := ({ cls := "MoveNotes$Cond", name := "holds", desc := "([I)Z" } : Jvm.MethodName)) (ci := 17) K (ihJX17_holds v7 p1 _) mtX17_holds q719 q723 q715 q714 q720 q718 q716 q717 (by decide) rfl rfl rfl rfl (Nat.le_of_ble_eq_true rfl) (by omega) ⟨Nat.zero_le _, Nat.zero_le _⟩ dX17_holds_11) (jrun5_dispC (jrun_F (As := [.ref p1]) (st := []) (x := ({ cls := "MoveNotes$Cond", name := "holds", desc := "([I)Z" } : Jvm.MethodName)) (ci := 18) K (metX18_holds K.hG v7 p1 _) mtX18_holds q745 q723 q715 q714 q746 q744 q742 q743 (by decide) rfl rfl rfl rfl (Nat.le_of_ble_eq_true rfl) (by omega) ⟨Nat.zero_le _, Nat.zero_le _⟩ dX17_holds_11) (jrun5_dispC (jrun_F (As := [.ref p1]) (st := []) (x := ({ cls := "MoveNotes$Cond", name := "holds", desc := "([I)Z" } : Jvm.MethodName)) (ci := 20) K (metX20_holds K.hG v7 p1 _) mtX20_holds q727 q723 q715 q714 q728 q726 q724 q725 (by decide) rfl rfl rfl rfl (Nat.le_of_ble_eq_true rfl) (by omega) ⟨Nat.zero_le _, Nat.zero_le _⟩ dX17_holds_11) (jrun5_dispC (jrun_F (As := [.ref p1]) (st := []) (x := ({ cls := "MoveNotes$Cond", name := "holds", desc := "([I)Z" } : Jvm.MethodName)) (ci := 21) K (ihJX21_holds v7 p1 _) mtX21_holds q737 q723 q715 q714 q738 q736 q734 q735 (by decide) rfl rfl rfl rfl (Nat.le_of_ble_eq_true rfl) (by omega) ⟨Nat.zero_le _, Nat.zero_le _⟩ dX17_holds_11) jrun5_disp0)))) hkd
theorem wX17_holds (nf : Nat) (K : JK p l R s m args meth c D S0 A0 3 cX17_holds "MoveNotes$Chain" (13 + (nf + 1))) (bc bs : Nat) (rJX17_holds : Nat → Nat → (Int32 → JP) → JP) (rJX21_holds : Nat → Nat → (Int32 → JP) → JP) (this : Nat) (p1 : Nat) (Qj : Int32 → JP) (ihJX17_holds : ∀ (this : Nat) (p1 : Nat) (Qj : (Int32 → JP)), Met l yX17_holds (ws_ yX17_holds cX17_holds 3 (some .boolean)) (jrm (13 + nf) 0 0) (va_Pc [.ref this, .ref p1] (jB D S0 (rJX17_holds this p1 Qj))) (va_Qi Qj (fun σ t => jRep D S0.heap.size σ t.heap) (jA S0)) 0 0 (jA S0)) (ihJX21_holds : ∀ (this : Nat) (p1 : Nat) (Qj : (Int32 → JP)), Met l yX21_holds (ws_ yX21_holds cX21_holds 2 (some .boolean)) (jrm (13 + nf) 0 0) (va_Pc [.ref this, .ref p1] (jB D S0 (rJX21_holds this p1 Qj))) (va_Qi Qj (fun σ t => jRep D S0.heap.size σ t.heap) (jA S0)) 0 0 (jA S0)) (hret : jRetZ p l e R s m args below meth c Q D S0 3 cX17_holds Qj) : JR p l e R s m args below meth c Q D S0 3 bc bs (JX17_holdsF rJX17_holds rJX21_holds this p1 Qj) 0 [some (.ref this), some (.ref p1), none] [] := by
  unfold JX17_holdsF
  refine jr_aload_n K dX17_holds_0 rfl ?_
  refine jr_astore_n K (L' := [some (.ref this), some (.ref p1), some (.ref this)]) dX17_holds_1 (by decide) rfl rfl ?_
  refine jr_ex (fun n2 => ?_)
  refine jr_weak (wX17_holds_2 nf K bc bs rJX17_holds rJX21_holds this p1 Qj _ _ ihJX17_holds ihJX21_holds ?_ ?_ n2 (some this)) ⟨rfl, rfl, rfl, trivial⟩
  · refine jr_aload_n K dX17_holds_44 rfl ?_
    refine jr_getI K gf_X17_13 dX17_holds_45 (fun v45 => ?_)
    exact hret _ _ _ _ _ dX17_holds_48
  · refine jr_aload_n K dX17_holds_23 rfl ?_
    refine jr_getI K gf_X17_13 dX17_holds_24 (fun v24 => ?_)
    refine jr_if_ne K (tgt := 34) dX17_holds_27 (by decide) ?_ ?_
    · refine jr_iconst K dX17_holds_34 (v := (nI 0)) (by decide) ?_
      exact JR.imp (fun _ h => ⟨Or.inl rfl, h⟩) (hret _ _ _ _ _ dX17_holds_35)
    · refine jr_iconst K dX17_holds_30 (v := (nI 1)) (by decide) ?_
      refine jr_goto K (tgt := 35) dX17_holds_31 (by decide) ?_
      exact JR.imp (fun _ h => ⟨Or.inr rfl, h⟩) (hret _ _ _ _ _ dX17_holds_35)
theorem wX21_holds (nf : Nat) (K : JK p l R s m args meth c D S0 A0 2 cX21_holds "MoveNotes$Not" (13 + (nf + 1))) (bc bs : Nat) (rJX17_holds : Nat → Nat → (Int32 → JP) → JP) (rJX21_holds : Nat → Nat → (Int32 → JP) → JP) (this : Nat) (p1 : Nat) (Qj : Int32 → JP) (ihJX17_holds : ∀ (this : Nat) (p1 : Nat) (Qj : (Int32 → JP)), Met l yX17_holds (ws_ yX17_holds cX17_holds 3 (some .boolean)) (jrm (13 + nf) 0 0) (va_Pc [.ref this, .ref p1] (jB D S0 (rJX17_holds this p1 Qj))) (va_Qi Qj (fun σ t => jRep D S0.heap.size σ t.heap) (jA S0)) 0 0 (jA S0)) (ihJX21_holds : ∀ (this : Nat) (p1 : Nat) (Qj : (Int32 → JP)), Met l yX21_holds (ws_ yX21_holds cX21_holds 2 (some .boolean)) (jrm (13 + nf) 0 0) (va_Pc [.ref this, .ref p1] (jB D S0 (rJX21_holds this p1 Qj))) (va_Qi Qj (fun σ t => jRep D S0.heap.size σ t.heap) (jA S0)) 0 0 (jA S0)) (hret : jRetZ p l e R s m args below meth c Q D S0 2 cX21_holds Qj) : JR p l e R s m args below meth c Q D S0 2 bc bs (JX21_holdsF rJX17_holds rJX21_holds this p1 Qj) 0 [some (.ref this), some (.ref p1)] [] := by
  unfold JX21_holdsF
  refine jr_aload_n K dX21_holds_0 rfl ?_
  refine jr_getA K gf_X21_7 dX21_holds_1 (fun v1 => ?_)
  refine jr_aload_n K dX21_holds_4 rfl ?_
  refine jr_join (fun (kd5 : Int32 → JP) => ∀ v5 : Int32, JR p l e R s m args below meth c Q D S0 2 bc bs (kd5 v5) 10 [some (.ref this), some (.ref p1)] [.int v5]) (fun v5 => ?_) (fun kd5 hkd => ?_)
  · refine jr_if_ne K (tgt := 17) dX21_holds_10 (by decide) ?_ ?_
    · refine jr_iconst K dX21_holds_17 (v := (nI 0)) (by decide) ?_
      exact JR.imp (fun _ h => ⟨Or.inl rfl, h⟩) (hret _ _ _ _ _ dX21_holds_18)
    · refine jr_iconst K dX21_holds_13 (v := (nI 1)) (by decide) ?_
      refine jr_goto K (tgt := 18) dX21_holds_14 (by decide) ?_
      exact JR.imp (fun _ h => ⟨Or.inr rfl, h⟩) (hret _ _ _ _ _ dX21_holds_18)
  exact jr_callFi0 (jrun5_dispC (jrun_F (As := [.ref p1]) (st := []) (x := ({ cls := "MoveNotes$Cond", name := "holds", desc := "([I)Z" } : Jvm.MethodName)) (ci := 17) K (ihJX17_holds v1 p1 _) mtX17_holds q719 q741 q715 q714 q720 q718 q716 q717 (by decide) rfl rfl rfl rfl (Nat.le_of_ble_eq_true rfl) (by omega) ⟨Nat.zero_le _, Nat.zero_le _⟩ dX21_holds_5) (jrun5_dispC (jrun_F (As := [.ref p1]) (st := []) (x := ({ cls := "MoveNotes$Cond", name := "holds", desc := "([I)Z" } : Jvm.MethodName)) (ci := 18) K (metX18_holds K.hG v1 p1 _) mtX18_holds q745 q741 q715 q714 q746 q744 q742 q743 (by decide) rfl rfl rfl rfl (Nat.le_of_ble_eq_true rfl) (by omega) ⟨Nat.zero_le _, Nat.zero_le _⟩ dX21_holds_5) (jrun5_dispC (jrun_F (As := [.ref p1]) (st := []) (x := ({ cls := "MoveNotes$Cond", name := "holds", desc := "([I)Z" } : Jvm.MethodName)) (ci := 20) K (metX20_holds K.hG v1 p1 _) mtX20_holds q727 q741 q715 q714 q728 q726 q724 q725 (by decide) rfl rfl rfl rfl (Nat.le_of_ble_eq_true rfl) (by omega) ⟨Nat.zero_le _, Nat.zero_le _⟩ dX21_holds_5) (jrun5_dispC (jrun_F (As := [.ref p1]) (st := []) (x := ({ cls := "MoveNotes$Cond", name := "holds", desc := "([I)Z" } : Jvm.MethodName)) (ci := 21) K (ihJX21_holds v1 p1 _) mtX21_holds q737 q741 q715 q714 q738 q736 q734 q735 (by decide) rfl rfl rfl rfl (Nat.le_of_ble_eq_true rfl) (by omega) ⟨Nat.zero_le _, Nat.zero_le _⟩ dX21_holds_5) jrun5_disp0)))) hkd
theorem metX17_holdsR (hG : jG l D S0 A0) : ∀ n : Nat, (∀ (this : Nat) (p1 : Nat) (Qj : (Int32 → JP)), Met l yX17_holds (ws_ yX17_holds cX17_holds 3 (some .boolean)) (jrm (13 + n) 0 0) (va_Pc [.ref this, .ref p1] (jB D S0 (JX17_holds n this p1 Qj))) (va_Qi Qj (fun σ t => jRep D S0.heap.size σ t.heap) (jA S0)) 0 0 (jA S0)) ∧ (∀ (this : Nat) (p1 : Nat) (Qj : (Int32 → JP)), Met l yX21_holds (ws_ yX21_holds cX21_holds 2 (some .boolean)) (jrm (13 + n) 0 0) (va_Pc [.ref this, .ref p1] (jB D S0 (JX21_holds n this p1 Qj))) (va_Qi Qj (fun σ t => jRep D S0.heap.size σ t.heap) (jA S0)) 0 0 (jA S0)) := by
  intro n
  induction n with
  | zero =>
    exact ⟨(fun this p1 Qj =>
    jr_start hG (by decide) (Nat.le_of_ble_eq_true rfl) rfl fun p e s m below meth c K hr hn => JR.bot), (fun this p1 Qj =>
    jr_start hG (by decide) (Nat.le_of_ble_eq_true rfl) rfl fun p e s m below meth c K hr hn => JR.bot)⟩
  | succ n ih =>
    exact ⟨(fun this p1 Qj =>
    jr_start hG (by decide) (Nat.le_of_ble_eq_true rfl) rfl fun p e s m below meth c K hr hn => wX17_holds n K _ _ _ _ this p1 Qj ih.1 ih.2 (fun _ _ _ _ _ d => jr_zret K hr d)), (fun this p1 Qj =>
    jr_start hG (by decide) (Nat.le_of_ble_eq_true rfl) rfl fun p e s m below meth c K hr hn => wX21_holds n K _ _ _ _ this p1 Qj ih.1 ih.2 (fun _ _ _ _ _ d => jr_zret K hr d))⟩
theorem metX17_holds (hG : jG l D S0 A0) (n : Nat) : ∀ (this : Nat) (p1 : Nat) (Qj : (Int32 → JP)), Met l yX17_holds (ws_ yX17_holds cX17_holds 3 (some .boolean)) (jrm (13 + n) 0 0) (va_Pc [.ref this, .ref p1] (jB D S0 (JX17_holds n this p1 Qj))) (va_Qi Qj (fun σ t => jRep D S0.heap.size σ t.heap) (jA S0)) 0 0 (jA S0) := (metX17_holdsR hG n).1
theorem metX21_holds (hG : jG l D S0 A0) (n : Nat) : ∀ (this : Nat) (p1 : Nat) (Qj : (Int32 → JP)), Met l yX21_holds (ws_ yX21_holds cX21_holds 2 (some .boolean)) (jrm (13 + n) 0 0) (va_Pc [.ref this, .ref p1] (jB D S0 (JX21_holds n this p1 Qj))) (va_Qi Qj (fun σ t => jRep D S0.heap.size σ t.heap) (jA S0)) 0 0 (jA S0) := (metX17_holdsR hG n).2
theorem wX16_tells (K : JK p l R s m args meth c D S0 A0 2 cX16_tells "MoveNotes$PlayLine" 54) (bc bs : Nat) (this : Nat) (p1 : Nat) (Qj : Int32 → JP) (hret : jRetI p l e R s m args below meth c Q D S0 2 cX16_tells Qj) : JR p l e R s m args below meth c Q D S0 2 bc bs (JX16_tells this p1 Qj) 0 [some (.ref this), some (.ref p1)] [] := by
  unfold JX16_tells
  refine jr_aload_n K dX16_tells_0 rfl ?_
  refine jr_getO K gf_X16_18 dX16_tells_1 (fun v1 => ?_)
  refine jr_join (fun (k24 : JP) => JR p l e R s m args below meth c Q D S0 2 bc bs k24 24 [some (.ref this), some (.ref p1)] []) ?_ (fun k24 hk24 => ?_)
  · refine jr_aload_n K dX16_tells_24 rfl ?_
    refine jr_getI K gf_X16_15 dX16_tells_25 (fun v25 => ?_)
    refine jr_iconst K dX16_tells_28 (v := (-1)) (by decide) ?_
    refine jr_icmp_ne K (tgt := 39) dX16_tells_29 (by decide) ?_ ?_
    · refine jr_aload_n K dX16_tells_39 rfl ?_
      refine jr_getI K gf_X16_9 dX16_tells_40 (fun v40 => ?_)
      refine jr_aload_n K dX16_tells_43 rfl ?_
      refine jr_aload_n K dX16_tells_44 rfl ?_
      refine jr_getI K gf_X16_15 dX16_tells_45 (fun v45 => ?_)
      refine jr_iald K dX16_tells_48 (fun v48 => ?_)
      refine jr_imul K dX16_tells_49 ?_
      exact hret _ _ _ _ _ dX16_tells_50
    · refine jr_aload_n K dX16_tells_32 rfl ?_
      refine jr_getI K gf_X16_9 dX16_tells_33 (fun v33 => ?_)
      refine jr_goto K (tgt := 50) dX16_tells_36 (by decide) ?_
      exact hret _ _ _ _ _ dX16_tells_50
  refine jr_ifnull K (tgt := 24) dX16_tells_4 (by decide) (fun hnul => ?_) (fun hnul => ?_)
  · exact jr_weak (hk24) ⟨rfl, rfl, trivial⟩
  · refine jr_aload_n K dX16_tells_7 rfl ?_
    refine jr_getO K gf_X16_18 dX16_tells_8 (fun v8 => ?_)
    refine jr_aload_n K dX16_tells_11 rfl ?_
    refine jr_some (fun u12 hs12 => ?_)
    subst hs12
    refine jr_join (fun (kd12 : Int32 → JP) => ∀ v12 : Int32, JR p l e R s m args below meth c Q D S0 2 bc bs (kd12 v12) 17 [some (.ref this), some (.ref p1)] [.int v12]) (fun v12 => ?_) (fun kd12 hkd => ?_)
    · refine jr_if_ne K (tgt := 24) dX16_tells_17 (by decide) ?_ ?_
      · exact jr_weak (hk24) ⟨rfl, rfl, trivial⟩
      · refine jr_iconst K dX16_tells_20 (v := (nI 0)) (by decide) ?_
        refine jr_goto K (tgt := 50) dX16_tells_21 (by decide) ?_
        exact hret _ _ _ _ _ dX16_tells_50
    exact jr_callFi0 (jrun5_dispC (jrun_F (As := [.ref p1]) (st := []) (x := ({ cls := "MoveNotes$Cond", name := "holds", desc := "([I)Z" } : Jvm.MethodName)) (ci := 17) K (metX17_holds K.hG 40 u12 p1 _) mtX17_holds q719 q713 q715 q714 q720 q718 q716 q717 (by decide) rfl rfl rfl rfl (Nat.le_of_ble_eq_true rfl) (by decide) ⟨Nat.zero_le _, Nat.zero_le _⟩ dX16_tells_12) (jrun5_dispC (jrun_F (As := [.ref p1]) (st := []) (x := ({ cls := "MoveNotes$Cond", name := "holds", desc := "([I)Z" } : Jvm.MethodName)) (ci := 18) K (metX18_holds K.hG u12 p1 _) mtX18_holds q745 q713 q715 q714 q746 q744 q742 q743 (by decide) rfl rfl rfl rfl (Nat.le_of_ble_eq_true rfl) (by decide) ⟨Nat.zero_le _, Nat.zero_le _⟩ dX16_tells_12) (jrun5_dispC (jrun_F (As := [.ref p1]) (st := []) (x := ({ cls := "MoveNotes$Cond", name := "holds", desc := "([I)Z" } : Jvm.MethodName)) (ci := 20) K (metX20_holds K.hG u12 p1 _) mtX20_holds q727 q713 q715 q714 q728 q726 q724 q725 (by decide) rfl rfl rfl rfl (Nat.le_of_ble_eq_true rfl) (by decide) ⟨Nat.zero_le _, Nat.zero_le _⟩ dX16_tells_12) (jrun5_dispC (jrun_F (As := [.ref p1]) (st := []) (x := ({ cls := "MoveNotes$Cond", name := "holds", desc := "([I)Z" } : Jvm.MethodName)) (ci := 21) K (metX21_holds K.hG 40 u12 p1 _) mtX21_holds q737 q713 q715 q714 q738 q736 q734 q735 (by decide) rfl rfl rfl rfl (Nat.le_of_ble_eq_true rfl) (by decide) ⟨Nat.zero_le _, Nat.zero_le _⟩ dX16_tells_12) jrun5_disp0)))) hkd
theorem metX16_tells (hG : jG l D S0 A0) (this : Nat) (p1 : Nat) (Qj : Int32 → JP) : Met l yX16_tells (ws_ yX16_tells cX16_tells 2 (some .int)) (jrm 54 0 0) (va_Pc [.ref this, .ref p1] (jB D S0 (JX16_tells this p1 Qj))) (va_Qi Qj (fun σ t => jRep D S0.heap.size σ t.heap) (jA S0)) 0 0 (jA S0) :=
  jr_start hG (by decide) (Nat.le_of_ble_eq_true rfl) rfl fun p e s m below meth c K hr hn => wX16_tells K _ _ this p1 Qj (fun _ _ _ _ _ d => jr_iret K hr rfl d)
theorem wX22_tells_4 (K : JK p l R s m args meth c D S0 A0 4 cX22_tells "MoveNotes$Measure" 55) (bc bs : Nat) (this : Nat) (p1 : Nat) (Qj : Int32 → JP) (hret : jRetI p l e R s m args below meth c Q D S0 4 cX22_tells Qj) : ∀ (n : Nat) (x2_4 : Int32) (x3_4 : Int32), JR p l e R s m args below meth c Q D S0 4 bc bs (jit (FX22_tells_4 this p1 Qj) (fun _ _ => jbot) n x2_4 x3_4) 4 [some (.ref this), some (.ref p1), some (.int x2_4), some (.int x3_4)] [] := by
  intro n
  induction n with
  | zero =>
    intro x2_4 x3_4
    exact JR.bot
  | succ n ih4 =>
    intro x2_4 x3_4
    show JR p l e R s m args below meth c Q D S0 4 bc bs (FX22_tells_4 this p1 Qj (jit (FX22_tells_4 this p1 Qj) (fun _ _ => jbot) n) x2_4 x3_4) 4 [some (.ref this), some (.ref p1), some (.int x2_4), some (.int x3_4)] []
    generalize jit (FX22_tells_4 this p1 Qj) (fun _ _ => jbot) n = rec4 at ih4 ⊢
    unfold FX22_tells_4
    refine jr_iload_n K dX22_tells_4 rfl ?_
    refine jr_aload_n K dX22_tells_5 rfl ?_
    refine jr_getA K gf_X22_9 dX22_tells_6 (fun v6 => ?_)
    refine jr_alen K dX22_tells_9 (fun v9 => ?_)
    refine jr_icmp_ge K (tgt := 32) dX22_tells_10 (by decide) ?_ ?_
    · refine jr_iload_n K dX22_tells_32 rfl ?_
      exact hret _ _ _ _ _ dX22_tells_33
    · refine jr_iload_n K dX22_tells_13 rfl ?_
      refine jr_aload_n K dX22_tells_14 rfl ?_
      refine jr_getA K gf_X22_9 dX22_tells_15 (fun v15 => ?_)
      refine jr_iload_n K dX22_tells_18 rfl ?_
      refine jr_aald K (by decide) dX22_tells_19 (fun v19 => ?_)
      refine jr_aload_n K dX22_tells_20 rfl ?_
      refine jr_calli0 (jrun_V (As := [.ref p1]) (st := [.int x2_4]) (ci := 16) K (metX16_tells K.hG v19 p1 _) mtX16_tells mvX16_tells q708 rfl rfl rfl (Nat.le_of_ble_eq_true rfl) (by decide) ⟨Nat.zero_le _, Nat.zero_le _⟩ dX22_tells_21) (fun v21 => ?_)
      refine jr_iadd K dX22_tells_24 ?_
      refine jr_istore_n K (L' := [some (.ref this), some (.ref p1), some (.int (x2_4 + v21)), some (.int x3_4)]) dX22_tells_25 (by decide) rfl rfl ?_
      refine jr_iinc K (v := (x3_4 + (nI 1))) (L' := [some (.ref this), some (.ref p1), some (.int (x2_4 + v21)), some (.int (x3_4 + (nI 1)))]) dX22_tells_26 rfl rfl (by decide) rfl rfl ?_
      refine jr_goto K (tgt := 4) dX22_tells_29 (by decide) ?_
      exact jr_weak (ih4 (x2_4 + v21) (x3_4 + (nI 1))) ⟨rfl, rfl, rfl, rfl, trivial⟩
theorem wX22_tells (K : JK p l R s m args meth c D S0 A0 4 cX22_tells "MoveNotes$Measure" 55) (bc bs : Nat) (this : Nat) (p1 : Nat) (Qj : Int32 → JP) (hret : jRetI p l e R s m args below meth c Q D S0 4 cX22_tells Qj) : JR p l e R s m args below meth c Q D S0 4 bc bs (JX22_tells this p1 Qj) 0 [some (.ref this), some (.ref p1), none, none] [] := by
  unfold JX22_tells
  refine jr_iconst K dX22_tells_0 (v := (nI 0)) (by decide) ?_
  refine jr_istore_n K (L' := [some (.ref this), some (.ref p1), some (.int (nI 0)), none]) dX22_tells_1 (by decide) rfl rfl ?_
  refine jr_iconst K dX22_tells_2 (v := (nI 0)) (by decide) ?_
  refine jr_istore_n K (L' := [some (.ref this), some (.ref p1), some (.int (nI 0)), some (.int (nI 0))]) dX22_tells_3 (by decide) rfl rfl ?_
  refine jr_ex (fun n4 => ?_)
  refine jr_weak (wX22_tells_4 K bc bs this p1 Qj hret n4 (nI 0) (nI 0)) ⟨rfl, rfl, rfl, rfl, trivial⟩
theorem metX22_tells (hG : jG l D S0 A0) (this : Nat) (p1 : Nat) (Qj : Int32 → JP) : Met l yX22_tells (ws_ yX22_tells cX22_tells 4 (some .int)) (jrm 55 0 0) (va_Pc [.ref this, .ref p1] (jB D S0 (JX22_tells this p1 Qj))) (va_Qi Qj (fun σ t => jRep D S0.heap.size σ t.heap) (jA S0)) 0 0 (jA S0) :=
  jr_start hG (by decide) (Nat.le_of_ble_eq_true rfl) rfl fun p e s m below meth c K hr hn => wX22_tells K _ _ this p1 Qj (fun _ _ _ _ _ d => jr_iret K hr rfl d)
theorem wX10_played_30 (K : JK p l R s m args meth c D S0 A0 8 cX10_played "MoveNotes$Search" 56) (bc bs : Nat) (this : Nat) (p1 : Int32) (Qj : Int32 → JP) (hret : jRetI p l e R s m args below meth c Q D S0 8 cX10_played Qj) : ∀ (n : Nat) (x2_30 : Int32) (x3_30 : Int32), JR p l e R s m args below meth c Q D S0 8 bc bs (jit (FX10_played_30 this p1 Qj) (fun _ _ => jbot) n x2_30 x3_30) 30 [some (.ref this), some (.int p1), some (.int x2_30), some (.int x3_30), none, none, none, none] [] := by
  intro n
  induction n with
  | zero =>
    intro x2_30 x3_30
    exact JR.bot
  | succ n ih30 =>
    intro x2_30 x3_30
    show JR p l e R s m args below meth c Q D S0 8 bc bs (FX10_played_30 this p1 Qj (jit (FX10_played_30 this p1 Qj) (fun _ _ => jbot) n) x2_30 x3_30) 30 [some (.ref this), some (.int p1), some (.int x2_30), some (.int x3_30), none, none, none, none] []
    generalize jit (FX10_played_30 this p1 Qj) (fun _ _ => jbot) n = rec30 at ih30 ⊢
    unfold FX10_played_30
    refine jr_iload_n K dX10_played_30 rfl ?_
    refine jr_iload_n K dX10_played_31 rfl ?_
    refine jr_icmp_ge K (tgt := 213) dX10_played_32 (by decide) ?_ ?_
    · refine jr_iload_n K dX10_played_213 rfl ?_
      exact hret _ _ _ _ _ dX10_played_214
    · refine jr_iload_n K dX10_played_35 rfl ?_
      refine jr_iconst K dX10_played_36 (v := (nI 2)) (by decide) ?_
      refine jr_irem K dX10_played_37 (by decide) ?_
      refine jr_istore K (L' := [some (.ref this), some (.int p1), some (.int x2_30), some (.int x3_30), some (.int (jrem x3_30 (nI 2))), none, none, none]) dX10_played_38 (by decide) rfl rfl ?_
      refine jr_aload_n K dX10_played_40 rfl ?_
      refine jr_getA K gf_X10_32 dX10_played_41 (fun v41 => ?_)
      refine jr_iload_n K dX10_played_44 rfl ?_
      refine jr_iald K dX10_played_45 (fun v45 => ?_)
      refine jr_istore K (L' := [some (.ref this), some (.int p1), some (.int x2_30), some (.int x3_30), some (.int (jrem x3_30 (nI 2))), some (.int v45), none, none]) dX10_played_46 (by decide) rfl rfl ?_
      refine jr_aload_n K dX10_played_48 rfl ?_
      refine jr_getA K gf_X10_54 dX10_played_49 (fun v49 => ?_)
      refine jr_getA K gf_X10_64 dX10_played_52 (fun v52 => ?_)
      refine jr_aload_n K dX10_played_55 rfl ?_
      refine jr_getA K gf_X10_51 dX10_played_56 (fun v56 => ?_)
      refine jr_getA K gf_X10_58 dX10_played_59 (fun v59 => ?_)
      refine jr_iload K dX10_played_62 rfl ?_
      refine jr_bipush K dX10_played_64 (v := (nI 36)) (by decide) ?_
      refine jr_idiv K dX10_played_66 (by decide) ?_
      refine jr_iald K dX10_played_67 (fun v67 => ?_)
      refine jr_aald K (by decide) dX10_played_68 (fun v68 => ?_)
      refine jr_getI K gf_X10_256 dX10_played_69 (fun v69 => ?_)
      refine jr_istore K (L' := [some (.ref this), some (.int p1), some (.int x2_30), some (.int x3_30), some (.int (jrem x3_30 (nI 2))), some (.int v45), some (.int v69), none]) dX10_played_72 (by decide) rfl rfl ?_
      refine jr_aload_n K dX10_played_74 rfl ?_
      refine jr_getA K gf_X10_51 dX10_played_75 (fun v75 => ?_)
      refine jr_iload K dX10_played_78 rfl ?_
      refine jr_calli0 (jrun_V (As := [.int v45]) (st := []) (ci := 8) K (metX8_goes K.hG v75 v45 _) mtX8_goes mvX8_goes q659 rfl rfl rfl (Nat.le_of_ble_eq_true rfl) (by decide) ⟨Nat.zero_le _, Nat.zero_le _⟩ dX10_played_80) (fun v80 => ?_)
      refine jr_istore K (L' := [some (.ref this), some (.int p1), some (.int x2_30), some (.int x3_30), some (.int (jrem x3_30 (nI 2))), some (.int v45), some (.int v69), some (.int v80)]) dX10_played_83 (by decide) rfl rfl ?_
      refine jr_aload_n K dX10_played_85 rfl ?_
      refine jr_getA K gf_X10_48 dX10_played_86 (fun v86 => ?_)
      refine jr_iconst K dX10_played_89 (v := (nI 0)) (by decide) ?_
      refine jr_iload K dX10_played_90 rfl ?_
      refine jr_iconst K dX10_played_92 (v := (-1)) (by decide) ?_
      refine jr_join (fun (k113 : Int32 → JP) => ∀ (s2_113 : Int32), JR p l e R s m args below meth c Q D S0 8 bc bs (k113 s2_113) 113 [some (.ref this), some (.int p1), some (.int x2_30), some (.int x3_30), some (.int (jrem x3_30 (nI 2))), some (.int v45), some (.int v69), some (.int v80)] [.int s2_113, .int (nI 0), .ref v86]) ?_ (fun k113 hk113 => ?_)
      · intro s2_113
        refine jr_iast K dX10_played_113 ?_
        refine jr_aload_n K dX10_played_114 rfl ?_
        refine jr_getA K gf_X10_48 dX10_played_115 (fun v115 => ?_)
        refine jr_iconst K dX10_played_118 (v := (nI 1)) (by decide) ?_
        refine jr_iload K dX10_played_119 rfl ?_
        refine jr_iast K dX10_played_121 ?_
        refine jr_aload_n K dX10_played_122 rfl ?_
        refine jr_getA K gf_X10_48 dX10_played_123 (fun v123 => ?_)
        refine jr_iconst K dX10_played_126 (v := (nI 2)) (by decide) ?_
        refine jr_iload_n K dX10_played_127 rfl ?_
        refine jr_iconst K dX10_played_128 (v := (nI 1)) (by decide) ?_
        refine jr_iadd K dX10_played_129 ?_
        refine jr_iast K dX10_played_130 ?_
        refine jr_aload_n K dX10_played_131 rfl ?_
        refine jr_getA K gf_X10_48 dX10_played_132 (fun v132 => ?_)
        refine jr_iconst K dX10_played_135 (v := (nI 3)) (by decide) ?_
        refine jr_aload_n K dX10_played_136 rfl ?_
        refine jr_getA K gf_X10_51 dX10_played_137 (fun v137 => ?_)
        refine jr_iload K dX10_played_140 rfl ?_
        refine jr_calli0 (jrun_V (As := [.int (jrem x3_30 (nI 2))]) (st := [.int (nI 3), .ref v132]) (ci := 8) K (metX8_men K.hG v137 (jrem x3_30 (nI 2)) _) mtX8_men mvX8_men q663 rfl rfl rfl (Nat.le_of_ble_eq_true rfl) (by decide) ⟨Nat.zero_le _, Nat.zero_le _⟩ dX10_played_142) (fun v142 => ?_)
        refine jr_iast K dX10_played_145 ?_
        refine jr_aload_n K dX10_played_146 rfl ?_
        refine jr_getA K gf_X10_48 dX10_played_147 (fun v147 => ?_)
        refine jr_iconst K dX10_played_150 (v := (nI 4)) (by decide) ?_
        refine jr_iload K dX10_played_151 rfl ?_
        refine jr_iconst K dX10_played_153 (v := (-1)) (by decide) ?_
        refine jr_join (fun (k162 : Int32 → JP) => ∀ (s2_162 : Int32), JR p l e R s m args below meth c Q D S0 8 bc bs (k162 s2_162) 162 [some (.ref this), some (.int p1), some (.int x2_30), some (.int x3_30), some (.int (jrem x3_30 (nI 2))), some (.int v45), none, none] [.int s2_162, .int (nI 4), .ref v147]) ?_ (fun k162 hk162 => ?_)
        · intro s2_162
          refine jr_iast K dX10_played_162 ?_
          refine jr_aload_n K dX10_played_163 rfl ?_
          refine jr_getA K gf_X10_48 dX10_played_164 (fun v164 => ?_)
          refine jr_iconst K dX10_played_167 (v := (nI 5)) (by decide) ?_
          refine jr_aload_n K dX10_played_168 rfl ?_
          refine jr_iload K dX10_played_169 rfl ?_
          refine jr_bipush K dX10_played_171 (v := (nI 36)) (by decide) ?_
          refine jr_irem K dX10_played_173 (by decide) ?_
          refine jr_iconst K dX10_played_174 (v := (nI 1)) (by decide) ?_
          refine jr_iload K dX10_played_175 rfl ?_
          refine jr_isub K dX10_played_177 ?_
          refine jr_calli0 (jrun_V (As := [.int (jrem v45 (nI 36)), .int ((nI 1) - (jrem x3_30 (nI 2)))]) (st := [.int (nI 5), .ref v164]) (ci := 10) K (metX10_isTaken K.hG this (jrem v45 (nI 36)) ((nI 1) - (jrem x3_30 (nI 2))) _) mtX10_isTaken mvX10_isTaken q667 rfl rfl rfl (Nat.le_of_ble_eq_true rfl) (by decide) ⟨Nat.zero_le _, Nat.zero_le _⟩ dX10_played_178) (fun v178 => ?_)
          refine jr_join (fun (k189 : Int32 → JP) => ∀ (s2_189 : Int32), JR p l e R s m args below meth c Q D S0 8 bc bs (k189 s2_189) 189 [some (.ref this), some (.int p1), some (.int x2_30), some (.int x3_30), none, none, none, none] [.int s2_189, .int (nI 5), .ref v164]) ?_ (fun k189 hk189 => ?_)
          · intro s2_189
            refine jr_iast K dX10_played_189 ?_
            refine jr_iload_n K dX10_played_190 rfl ?_
            refine jr_aload_n K dX10_played_191 rfl ?_
            refine jr_getA K gf_X10_54 dX10_played_192 (fun v192 => ?_)
            refine jr_getO K gf_X10_252 dX10_played_195 (fun v195 => ?_)
            refine jr_aload_n K dX10_played_198 rfl ?_
            refine jr_getA K gf_X10_48 dX10_played_199 (fun v199 => ?_)
            refine jr_some (fun u202 hs202 => ?_)
            subst hs202
            refine jr_calli0 (jrun_V (As := [.ref v199]) (st := [.int x2_30]) (ci := 22) K (metX22_tells K.hG u202 v199 _) mtX22_tells mvX22_tells q704 rfl rfl rfl (by simp only [List.map, jcat_rf]; exact Nat.le_of_ble_eq_true rfl) (by decide) ⟨Nat.zero_le _, Nat.zero_le _⟩ dX10_played_202) (fun v202 => ?_)
            refine jr_iadd K dX10_played_205 ?_
            refine jr_istore_n K (L' := [some (.ref this), some (.int p1), some (.int (x2_30 + v202)), some (.int x3_30), none, none, none, none]) dX10_played_206 (by decide) rfl rfl ?_
            refine jr_iinc K (v := (x3_30 + (nI 1))) (L' := [some (.ref this), some (.int p1), some (.int (x2_30 + v202)), some (.int (x3_30 + (nI 1))), none, none, none, none]) dX10_played_207 rfl rfl (by decide) rfl rfl ?_
            refine jr_goto K (tgt := 30) dX10_played_210 (by decide) ?_
            exact jr_weak (ih30 (x2_30 + v202) (x3_30 + (nI 1))) ⟨rfl, rfl, rfl, rfl, trivial⟩
          refine jr_if_eq K (tgt := 188) dX10_played_181 (by decide) ?_ ?_
          · refine jr_iconst K dX10_played_188 (v := (nI 1)) (by decide) ?_
            exact jr_weak (hk189 (nI 1)) ⟨rfl, rfl, rfl, rfl, trivial⟩
          · refine jr_iconst K dX10_played_184 (v := (nI 0)) (by decide) ?_
            refine jr_goto K (tgt := 189) dX10_played_185 (by decide) ?_
            exact jr_weak (hk189 (nI 0)) ⟨rfl, rfl, rfl, rfl, trivial⟩
        refine jr_icmp_ne K (tgt := 161) dX10_played_154 (by decide) ?_ ?_
        · refine jr_iconst K dX10_played_161 (v := (nI 1)) (by decide) ?_
          exact jr_weak (hk162 (nI 1)) ⟨rfl, rfl, rfl, rfl, rfl, rfl, trivial⟩
        · refine jr_iconst K dX10_played_157 (v := (nI 0)) (by decide) ?_
          refine jr_goto K (tgt := 162) dX10_played_158 (by decide) ?_
          exact jr_weak (hk162 (nI 0)) ⟨rfl, rfl, rfl, rfl, rfl, rfl, trivial⟩
      refine jr_icmp_ne K (tgt := 100) dX10_played_93 (by decide) ?_ ?_
      · refine jr_aload_n K dX10_played_100 rfl ?_
        refine jr_getA K gf_X10_54 dX10_played_101 (fun v101 => ?_)
        refine jr_getA K gf_X10_64 dX10_played_104 (fun v104 => ?_)
        refine jr_iload K dX10_played_107 rfl ?_
        refine jr_aald K (by decide) dX10_played_109 (fun v109 => ?_)
        refine jr_getI K gf_X10_256 dX10_played_110 (fun v110 => ?_)
        exact jr_weak (hk113 v110) ⟨rfl, rfl, rfl, rfl, rfl, rfl, rfl, rfl, trivial⟩
      · refine jr_iconst K dX10_played_96 (v := (nI 0)) (by decide) ?_
        refine jr_goto K (tgt := 113) dX10_played_97 (by decide) ?_
        exact jr_weak (hk113 (nI 0)) ⟨rfl, rfl, rfl, rfl, rfl, rfl, rfl, rfl, trivial⟩
theorem wX10_played (K : JK p l R s m args meth c D S0 A0 8 cX10_played "MoveNotes$Search" 56) (bc bs : Nat) (this : Nat) (p1 : Int32) (Qj : Int32 → JP) (hret : jRetI p l e R s m args below meth c Q D S0 8 cX10_played Qj) : JR p l e R s m args below meth c Q D S0 8 bc bs (JX10_played this p1 Qj) 0 [some (.ref this), some (.int p1), none, none, none, none, none, none] [] := by
  unfold JX10_played
  refine jr_aload_n K dX10_played_0 rfl ?_
  refine jr_getA K gf_X10_54 dX10_played_1 (fun v1 => ?_)
  refine jr_getO K gf_X10_252 dX10_played_4 (fun v4 => ?_)
  refine jr_ifnonnull K (tgt := 12) dX10_played_7 (by decide) (fun hnul => ?_) (fun hnul => ?_)
  · refine jr_aload_n K dX10_played_12 rfl ?_
    refine jr_getA K gf_X10_51 dX10_played_13 (fun v13 => ?_)
    refine jr_aload_n K dX10_played_16 rfl ?_
    refine jr_getA K gf_X10_54 dX10_played_17 (fun v17 => ?_)
    refine jr_getA K gf_X10_234 dX10_played_20 (fun v20 => ?_)
    refine jr_callv0 (jrun_V (As := [.ref v20]) (st := []) (ci := 8) K (metX8_be K.hG v13 v20 _) mtX8_be mvX8_be q616 rfl rfl rfl (Nat.le_of_ble_eq_true rfl) (by decide) ⟨Nat.zero_le _, Nat.zero_le _⟩ dX10_played_23) ?_
    refine jr_iconst K dX10_played_26 (v := (nI 0)) (by decide) ?_
    refine jr_istore_n K (L' := [some (.ref this), some (.int p1), some (.int (nI 0)), none, none, none, none, none]) dX10_played_27 (by decide) rfl rfl ?_
    refine jr_iconst K dX10_played_28 (v := (nI 0)) (by decide) ?_
    refine jr_istore_n K (L' := [some (.ref this), some (.int p1), some (.int (nI 0)), some (.int (nI 0)), none, none, none, none]) dX10_played_29 (by decide) rfl rfl ?_
    refine jr_ex (fun n30 => ?_)
    refine jr_weak (wX10_played_30 K bc bs this p1 Qj hret n30 (nI 0) (nI 0)) ⟨rfl, rfl, rfl, rfl, trivial⟩
  · refine jr_iconst K dX10_played_10 (v := (nI 0)) (by decide) ?_
    exact hret _ _ _ _ _ dX10_played_11
theorem metX10_played (hG : jG l D S0 A0) (this : Nat) (p1 : Int32) (Qj : Int32 → JP) : Met l yX10_played (ws_ yX10_played cX10_played 8 (some .int)) (jrm 56 0 0) (va_Pc [.ref this, .int p1] (jB D S0 (JX10_played this p1 Qj))) (va_Qi Qj (fun σ t => jRep D S0.heap.size σ t.heap) (jA S0)) 0 0 (jA S0) :=
  jr_start hG (by decide) (Nat.le_of_ble_eq_true rfl) rfl fun p e s m below meth c K hr hn => wX10_played K _ _ this p1 Qj (fun _ _ _ _ _ d => jr_iret K hr rfl d)
theorem wX10_found (K : JK p l R s m args meth c D S0 A0 3 cX10_found "MoveNotes$Search" 57) (bc bs : Nat) (this : Nat) (p1 : Int32) (Qj : JP) (hret : jRetV p l e R s m args below meth c Q D S0 3 cX10_found Qj) : JR p l e R s m args below meth c Q D S0 3 bc bs (JX10_found this p1 Qj) 0 [some (.ref this), some (.int p1), none] [] := by
  unfold JX10_found
  refine jr_aload_n K dX10_found_0 rfl ?_
  refine jr_getI K gf_X10_193 dX10_found_1 (fun v1 => ?_)
  refine jr_if_eq K (tgt := 67) dX10_found_4 (by decide) ?_ ?_
  · refine jr_aload_n K dX10_found_67 rfl ?_
    refine jr_getI K gf_X10_209 dX10_found_68 (fun v68 => ?_)
    refine jr_join (fun (k93 : JP) => JR p l e R s m args below meth c Q D S0 3 bc bs k93 93 [some (.ref this), some (.int p1), none] []) ?_ (fun k93 hk93 => ?_)
    · refine jr_aload_n K dX10_found_93 rfl ?_
      refine jr_getI K gf_X10_209 dX10_found_94 (fun v94 => ?_)
      refine jr_iconst K dX10_found_97 (v := (nI 1)) (by decide) ?_
      refine jr_join (fun (k120 : JP) => JR p l e R s m args below meth c Q D S0 3 bc bs k120 120 [some (.ref this), some (.int p1), none] []) ?_ (fun k120 hk120 => ?_)
      · refine jr_aload_n K dX10_found_120 rfl ?_
        refine jr_getI K gf_X10_222 dX10_found_121 (fun v121 => ?_)
        refine jr_join (fun (k182 : JP) => JR p l e R s m args below meth c Q D S0 3 bc bs k182 182 [some (.ref this), none, none] []) ?_ (fun k182 hk182 => ?_)
        · refine jr_aload_n K dX10_found_182 rfl ?_
          refine jr_dup K dX10_found_183 rfl ?_
          refine jr_getI K gf_X10_209 dX10_found_184 (fun v184 => ?_)
          refine jr_iconst K dX10_found_187 (v := (nI 1)) (by decide) ?_
          refine jr_iadd K dX10_found_188 ?_
          refine jr_put K pf_X10_209 dX10_found_189 rfl rfl ?_
          exact hret _ _ _ _ dX10_found_192
        refine jr_if_eq K (tgt := 182) dX10_found_124 (by decide) ?_ ?_
        · exact jr_weak (hk182) ⟨rfl, trivial⟩
        · refine jr_aload_n K dX10_found_127 rfl ?_
          refine jr_getI K gf_X10_209 dX10_found_128 (fun v128 => ?_)
          refine jr_sipush K dX10_found_131 (v := (nI 200)) (by decide) ?_
          refine jr_icmp_ge K (tgt := 182) dX10_found_134 (by decide) ?_ ?_
          · exact jr_weak (hk182) ⟨rfl, trivial⟩
          · refine jr_aload_n K dX10_found_137 rfl ?_
            refine jr_iload_n K dX10_found_138 rfl ?_
            refine jr_calli0 (jrun_V (As := [.int p1]) (st := []) (ci := 10) K (metX10_played K.hG this p1 _) mtX10_played mvX10_played q655 rfl rfl rfl (Nat.le_of_ble_eq_true rfl) (by decide) ⟨Nat.zero_le _, Nat.zero_le _⟩ dX10_found_139) (fun v139 => ?_)
            refine jr_istore_n K (L' := [some (.ref this), some (.int p1), some (.int v139)]) dX10_found_142 (by decide) rfl rfl ?_
            refine jr_aload_n K dX10_found_143 rfl ?_
            refine jr_getI K gf_X10_209 dX10_found_144 (fun v144 => ?_)
            refine jr_join (fun (k158 : JP) => JR p l e R s m args below meth c Q D S0 3 bc bs k158 158 [some (.ref this), some (.int p1), some (.int v139)] []) ?_ (fun k158 hk158 => ?_)
            · refine jr_aload_n K dX10_found_158 rfl ?_
              refine jr_iload_n K dX10_found_159 rfl ?_
              refine jr_put K pf_X10_228 dX10_found_160 rfl rfl ?_
              refine jr_aload_n K dX10_found_163 rfl ?_
              refine jr_iload_n K dX10_found_164 rfl ?_
              refine jr_put K pf_X10_231 dX10_found_165 rfl rfl ?_
              refine jr_aload_n K dX10_found_168 rfl ?_
              refine jr_getA K gf_X10_32 dX10_found_169 (fun v169 => ?_)
              refine jr_iconst K dX10_found_172 (v := (nI 0)) (by decide) ?_
              refine jr_aload_n K dX10_found_173 rfl ?_
              refine jr_getA K gf_X10_42 dX10_found_174 (fun v174 => ?_)
              refine jr_iconst K dX10_found_177 (v := (nI 0)) (by decide) ?_
              refine jr_iload_n K dX10_found_178 rfl ?_
              refine jr_cpyI K q654 (by decide) (Nat.le_of_ble_eq_true rfl) dX10_found_179 ?_
              exact jr_weak (hk182) ⟨rfl, trivial⟩
            refine jr_if_eq K (tgt := 158) dX10_found_147 (by decide) ?_ ?_
            · exact jr_weak (hk158) ⟨rfl, rfl, rfl, trivial⟩
            · refine jr_iload_n K dX10_found_150 rfl ?_
              refine jr_aload_n K dX10_found_151 rfl ?_
              refine jr_getI K gf_X10_228 dX10_found_152 (fun v152 => ?_)
              refine jr_icmp_ge K (tgt := 182) dX10_found_155 (by decide) ?_ ?_
              · exact jr_weak (hk182) ⟨rfl, trivial⟩
              · exact jr_weak (hk158) ⟨rfl, rfl, rfl, trivial⟩
      refine jr_icmp_ne K (tgt := 120) dX10_found_98 (by decide) ?_ ?_
      · exact jr_weak (hk120) ⟨rfl, rfl, trivial⟩
      · refine jr_aload_n K dX10_found_101 rfl ?_
        refine jr_getA K gf_X10_32 dX10_found_102 (fun v102 => ?_)
        refine jr_iconst K dX10_found_105 (v := (nI 0)) (by decide) ?_
        refine jr_aload_n K dX10_found_106 rfl ?_
        refine jr_getA K gf_X10_39 dX10_found_107 (fun v107 => ?_)
        refine jr_iconst K dX10_found_110 (v := (nI 0)) (by decide) ?_
        refine jr_iload_n K dX10_found_111 rfl ?_
        refine jr_cpyI K q654 (by decide) (Nat.le_of_ble_eq_true rfl) dX10_found_112 ?_
        refine jr_aload_n K dX10_found_115 rfl ?_
        refine jr_iload_n K dX10_found_116 rfl ?_
        refine jr_put K pf_X10_219 dX10_found_117 rfl rfl ?_
        exact jr_weak (hk120) ⟨rfl, rfl, trivial⟩
    refine jr_if_ne K (tgt := 93) dX10_found_71 (by decide) ?_ ?_
    · exact jr_weak (hk93) ⟨rfl, rfl, trivial⟩
    · refine jr_aload_n K dX10_found_74 rfl ?_
      refine jr_getA K gf_X10_32 dX10_found_75 (fun v75 => ?_)
      refine jr_iconst K dX10_found_78 (v := (nI 0)) (by decide) ?_
      refine jr_aload_n K dX10_found_79 rfl ?_
      refine jr_getA K gf_X10_36 dX10_found_80 (fun v80 => ?_)
      refine jr_iconst K dX10_found_83 (v := (nI 0)) (by decide) ?_
      refine jr_iload_n K dX10_found_84 rfl ?_
      refine jr_cpyI K q654 (by decide) (Nat.le_of_ble_eq_true rfl) dX10_found_85 ?_
      refine jr_aload_n K dX10_found_88 rfl ?_
      refine jr_iload_n K dX10_found_89 rfl ?_
      refine jr_put K pf_X10_216 dX10_found_90 rfl rfl ?_
      exact jr_weak (hk93) ⟨rfl, rfl, trivial⟩
  · refine jr_aload_n K dX10_found_7 rfl ?_
    refine jr_dup K dX10_found_8 rfl ?_
    refine jr_getL K gf_X10_196 dX10_found_9 (fun v9 => ?_)
    refine jr_aload_n K dX10_found_12 rfl ?_
    refine jr_getL K gf_X10_200 dX10_found_13 (fun v13 => ?_)
    refine jr_ladd K dX10_found_16 ?_
    refine jr_put K pf_X10_196 dX10_found_17 rfl rfl ?_
    refine jr_aload_n K dX10_found_20 rfl ?_
    refine jr_dup K dX10_found_21 rfl ?_
    refine jr_getL K gf_X10_203 dX10_found_22 (fun v22 => ?_)
    refine jr_iload_n K dX10_found_25 rfl ?_
    refine jr_aload_n K dX10_found_26 rfl ?_
    refine jr_getI K gf_X10_206 dX10_found_27 (fun v27 => ?_)
    refine jr_join (fun (k62 : Int64 → JP) => ∀ (s2_62 : Int64), JR p l e R s m args below meth c Q D S0 3 bc bs (k62 s2_62) 62 [none, none, none] [.long s2_62, .long v22, .ref this]) ?_ (fun k62 hk62 => ?_)
    · intro s2_62
      refine jr_ladd K dX10_found_62 ?_
      refine jr_put K pf_X10_203 dX10_found_63 rfl rfl ?_
      exact hret _ _ _ _ dX10_found_66
    refine jr_join (fun (k61 : JP) => JR p l e R s m args below meth c Q D S0 3 bc bs k61 61 [none, none, none] [.long v22, .ref this]) ?_ (fun k61 hk61 => ?_)
    · refine jr_lconst K dX10_found_61 (v := (lN 0)) rfl ?_
      exact jr_weak (hk62 (lN 0)) trivial
    refine jr_icmp_le K (tgt := 61) dX10_found_30 (by decide) ?_ ?_
    · exact jr_weak (hk61) trivial
    · refine jr_aload_n K dX10_found_33 rfl ?_
      refine jr_getA K gf_X10_32 dX10_found_34 (fun v34 => ?_)
      refine jr_aload_n K dX10_found_37 rfl ?_
      refine jr_getI K gf_X10_206 dX10_found_38 (fun v38 => ?_)
      refine jr_iald K dX10_found_41 (fun v41 => ?_)
      refine jr_aload_n K dX10_found_42 rfl ?_
      refine jr_getA K gf_X10_36 dX10_found_43 (fun v43 => ?_)
      refine jr_aload_n K dX10_found_46 rfl ?_
      refine jr_getI K gf_X10_206 dX10_found_47 (fun v47 => ?_)
      refine jr_iald K dX10_found_50 (fun v50 => ?_)
      refine jr_icmp_ne K (tgt := 61) dX10_found_51 (by decide) ?_ ?_
      · exact jr_weak (hk61) trivial
      · refine jr_aload_n K dX10_found_54 rfl ?_
        refine jr_getL K gf_X10_200 dX10_found_55 (fun v55 => ?_)
        refine jr_goto K (tgt := 62) dX10_found_58 (by decide) ?_
        exact jr_weak (hk62 v55) trivial
theorem metX10_found (hG : jG l D S0 A0) (this : Nat) (p1 : Int32) (Qj : JP) : Met l yX10_found (ws_ yX10_found cX10_found 3 none) (jrm 57 0 0) (va_Pc [.ref this, .int p1] (jB D S0 (JX10_found this p1 Qj))) (va_Qv Qj (fun σ t => jRep D S0.heap.size σ t.heap) (jA S0)) 0 0 (jA S0) :=
  jr_start hG (by decide) (Nat.le_of_ble_eq_true rfl) rfl fun p e s m below meth c K hr hn => wX10_found K _ _ this p1 Qj (fun _ _ _ _ d => jr_vret K hr d)
theorem wX10_cost (K : JK p l R s m args meth c D S0 A0 7 cX10_cost "MoveNotes$Search" 14) (bc bs : Nat) (this : Nat) (p1 : Nat) (p2 : Int32) (p3 : Int32) (p4 : Int32) (p5 : Int32) (Qj : Int32 → JP) (hret : jRetI p l e R s m args below meth c Q D S0 7 cX10_cost Qj) : JR p l e R s m args below meth c Q D S0 7 bc bs (JX10_cost this p1 p2 p3 p4 p5 Qj) 0 [some (.ref this), some (.ref p1), some (.int p2), some (.int p3), some (.int p4), some (.int p5), none] [] := by
  unfold JX10_cost
  refine jr_aload_n K dX10_cost_0 rfl ?_
  refine jr_getA K gf_X10_82 dX10_cost_1 (fun v1 => ?_)
  refine jr_iload_n K dX10_cost_4 rfl ?_
  refine jr_aald K (by decide) dX10_cost_5 (fun v5 => ?_)
  refine jr_aload_n K dX10_cost_6 rfl ?_
  refine jr_getI K gf_X10_88 dX10_cost_7 (fun v7 => ?_)
  refine jr_iload_n K dX10_cost_10 rfl ?_
  refine jr_iload K dX10_cost_11 rfl ?_
  refine jr_iload K dX10_cost_13 rfl ?_
  refine jr_aload_n K dX10_cost_15 rfl ?_
  refine jr_getA K gf_X10_45 dX10_cost_16 (fun v16 => ?_)
  refine jr_calli0 (jrun_V (As := [.int v7, .int p3, .int p4, .int p5, .ref v16]) (st := []) (ci := 23) K (metX23_slip K.hG v5 v7 p3 p4 p5 v16 _) mtX23_slip mvX23_slip q756 rfl rfl rfl (Nat.le_of_ble_eq_true rfl) (by decide) ⟨Nat.zero_le _, Nat.zero_le _⟩ dX10_cost_19) (fun v19 => ?_)
  refine jr_istore K (L' := [some (.ref this), some (.ref p1), some (.int p2), some (.int p3), some (.int p4), some (.int p5), some (.int v19)]) dX10_cost_22 (by decide) rfl rfl ?_
  refine jr_iload K dX10_cost_24 rfl ?_
  refine jr_iconst K dX10_cost_26 (v := (-1)) (by decide) ?_
  refine jr_icmp_ne K (tgt := 35) dX10_cost_27 (by decide) ?_ ?_
  · refine jr_iload K dX10_cost_35 rfl ?_
    refine jr_if_ne K (tgt := 44) dX10_cost_37 (by decide) ?_ ?_
    · refine jr_aload_n K dX10_cost_44 rfl ?_
      refine jr_getA K gf_X10_45 dX10_cost_45 (fun v45 => ?_)
      refine jr_iload K dX10_cost_48 rfl ?_
      refine jr_iald K dX10_cost_50 (fun v50 => ?_)
      exact hret _ _ _ _ _ dX10_cost_51
    · refine jr_iconst K dX10_cost_40 (v := (nI 0)) (by decide) ?_
      refine jr_goto K (tgt := 51) dX10_cost_41 (by decide) ?_
      exact hret _ _ _ _ _ dX10_cost_51
  · refine jr_ldc K (v := (nI 1000000)) q623 (by decide) dX10_cost_30 ?_
    refine jr_goto K (tgt := 51) dX10_cost_32 (by decide) ?_
    exact hret _ _ _ _ _ dX10_cost_51
theorem metX10_cost (hG : jG l D S0 A0) (this : Nat) (p1 : Nat) (p2 : Int32) (p3 : Int32) (p4 : Int32) (p5 : Int32) (Qj : Int32 → JP) : Met l yX10_cost (ws_ yX10_cost cX10_cost 7 (some .int)) (jrm 14 0 0) (va_Pc [.ref this, .ref p1, .int p2, .int p3, .int p4, .int p5] (jB D S0 (JX10_cost this p1 p2 p3 p4 p5 Qj))) (va_Qi Qj (fun σ t => jRep D S0.heap.size σ t.heap) (jA S0)) 0 0 (jA S0) :=
  jr_start hG (by decide) (Nat.le_of_ble_eq_true rfl) rfl fun p e s m below meth c K hr hn => wX10_cost K _ _ this p1 p2 p3 p4 p5 Qj (fun _ _ _ _ _ d => jr_iret K hr rfl d)
theorem wX10_leads_7 (K : JK p l R s m args meth c D S0 A0 10 cX10_leads "MoveNotes$Search" 15) (bc bs : Nat) (this : Nat) (p1 : Nat) (p2 : Nat) (p3 : Nat) (p4 : Int32) (p5 : Int32) (p6 : Int32) (Qj : Int32 → JP) (hret : jRetI p l e R s m args below meth c Q D S0 10 cX10_leads Qj) : ∀ (n : Nat) (x7_7 : Int32) (x8_7 : Int32), JR p l e R s m args below meth c Q D S0 10 bc bs (jit (FX10_leads_7 this p1 p2 p3 p4 p5 p6 Qj) (fun _ _ => jbot) n x7_7 x8_7) 7 [some (.ref this), some (.ref p1), some (.ref p2), some (.ref p3), some (.int p4), some (.int p5), some (.int p6), some (.int x7_7), some (.int x8_7), none] [] := by
  intro n
  induction n with
  | zero =>
    intro x7_7 x8_7
    exact JR.bot
  | succ n ih7 =>
    intro x7_7 x8_7
    show JR p l e R s m args below meth c Q D S0 10 bc bs (FX10_leads_7 this p1 p2 p3 p4 p5 p6 Qj (jit (FX10_leads_7 this p1 p2 p3 p4 p5 p6 Qj) (fun _ _ => jbot) n) x7_7 x8_7) 7 [some (.ref this), some (.ref p1), some (.ref p2), some (.ref p3), some (.int p4), some (.int p5), some (.int p6), some (.int x7_7), some (.int x8_7), none] []
    generalize jit (FX10_leads_7 this p1 p2 p3 p4 p5 p6 Qj) (fun _ _ => jbot) n = rec7 at ih7 ⊢
    unfold FX10_leads_7
    refine jr_iload K dX10_leads_7 rfl ?_
    refine jr_aload_n K dX10_leads_9 rfl ?_
    refine jr_getI K gf_X10_99 dX10_leads_10 (fun v10 => ?_)
    refine jr_icmp_gt K (tgt := 165) dX10_leads_13 (by decide) ?_ ?_
    · refine jr_iload K dX10_leads_165 rfl ?_
      exact hret _ _ _ _ _ dX10_leads_167
    · refine jr_aload_n K dX10_leads_16 rfl ?_
      refine jr_getA K gf_X10_45 dX10_leads_17 (fun v17 => ?_)
      refine jr_bipush K dX10_leads_20 (v := (nI 6)) (by decide) ?_
      refine jr_iald K dX10_leads_22 (fun v22 => ?_)
      refine jr_join (fun (k43 : Int32 → JP) => ∀ (s0_43 : Int32), JR p l e R s m args below meth c Q D S0 10 bc bs (k43 s0_43) 43 [some (.ref this), some (.ref p1), some (.ref p2), some (.ref p3), some (.int p4), some (.int p5), some (.int p6), some (.int x7_7), some (.int x8_7), none] [.int s0_43]) ?_ (fun k43 hk43 => ?_)
      · intro s0_43
        refine jr_istore K (L' := [some (.ref this), some (.ref p1), some (.ref p2), some (.ref p3), some (.int p4), some (.int p5), some (.int p6), some (.int x7_7), some (.int x8_7), some (.int s0_43)]) dX10_leads_43 (by decide) rfl rfl ?_
        refine jr_iload K dX10_leads_45 rfl ?_
        refine jr_join (fun (k90 : Int32 → JP) => ∀ (x9_90 : Int32), JR p l e R s m args below meth c Q D S0 10 bc bs (k90 x9_90) 90 [some (.ref this), some (.ref p1), some (.ref p2), some (.ref p3), some (.int p4), some (.int p5), some (.int p6), some (.int x7_7), some (.int x8_7), some (.int x9_90)] []) ?_ (fun k90 hk90 => ?_)
        · intro x9_90
          refine jr_iload K dX10_leads_90 rfl ?_
          refine jr_join (fun (k137 : Int32 → JP) => ∀ (x9_137 : Int32), JR p l e R s m args below meth c Q D S0 10 bc bs (k137 x9_137) 137 [some (.ref this), some (.ref p1), some (.ref p2), some (.ref p3), some (.int p4), some (.int p5), some (.int p6), some (.int x7_7), some (.int x8_7), some (.int x9_137)] []) ?_ (fun k137 hk137 => ?_)
          · intro x9_137
            refine jr_aload_n K dX10_leads_137 rfl ?_
            refine jr_iload K dX10_leads_138 rfl ?_
            refine jr_iload K dX10_leads_140 rfl ?_
            refine jr_ldc K (v := (nI 1000000)) q623 (by decide) dX10_leads_142 ?_
            refine jr_min K q647 (by decide) (Nat.le_of_ble_eq_true rfl) dX10_leads_144 ?_
            refine jr_iast K dX10_leads_147 ?_
            refine jr_iload K dX10_leads_148 rfl ?_
            refine jr_aload_n K dX10_leads_150 rfl ?_
            refine jr_iload K dX10_leads_151 rfl ?_
            refine jr_iald K dX10_leads_153 (fun v153 => ?_)
            refine jr_min K q647 (by decide) (Nat.le_of_ble_eq_true rfl) dX10_leads_154 ?_
            refine jr_istore K (L' := [some (.ref this), some (.ref p1), some (.ref p2), some (.ref p3), some (.int p4), some (.int p5), some (.int p6), some (.int (jmin x7_7 v153)), some (.int x8_7), some (.int x9_137)]) dX10_leads_157 (by decide) rfl rfl ?_
            refine jr_iinc K (v := (x8_7 + (nI 1))) (L' := [some (.ref this), some (.ref p1), some (.ref p2), some (.ref p3), some (.int p4), some (.int p5), some (.int p6), some (.int (jmin x7_7 v153)), some (.int (x8_7 + (nI 1))), some (.int x9_137)]) dX10_leads_159 rfl rfl (by decide) rfl rfl ?_
            refine jr_goto K (tgt := 7) dX10_leads_162 (by decide) ?_
            exact jr_weak (ih7 (jmin x7_7 v153) (x8_7 + (nI 1))) ⟨rfl, rfl, rfl, rfl, rfl, rfl, rfl, rfl, rfl, trivial⟩
          refine jr_if_le K (tgt := 137) dX10_leads_92 (by decide) ?_ ?_
          · exact jr_weak (hk137 x9_90) ⟨rfl, rfl, rfl, rfl, rfl, rfl, rfl, rfl, rfl, rfl, trivial⟩
          · refine jr_aload_n K dX10_leads_95 rfl ?_
            refine jr_getA K gf_X10_45 dX10_leads_96 (fun v96 => ?_)
            refine jr_bipush K dX10_leads_99 (v := (nI 7)) (by decide) ?_
            refine jr_iald K dX10_leads_101 (fun v101 => ?_)
            refine jr_if_le K (tgt := 137) dX10_leads_102 (by decide) ?_ ?_
            · exact jr_weak (hk137 x9_90) ⟨rfl, rfl, rfl, rfl, rfl, rfl, rfl, rfl, rfl, rfl, trivial⟩
            · refine jr_aload_n K dX10_leads_105 rfl ?_
              refine jr_iload K dX10_leads_106 rfl ?_
              refine jr_iconst K dX10_leads_108 (v := (nI 1)) (by decide) ?_
              refine jr_isub K dX10_leads_109 ?_
              refine jr_calli0 (jrun_V (As := [.int (x8_7 - (nI 1))]) (st := []) (ci := 9) K (metX9_isTwice K.hG p1 (x8_7 - (nI 1)) _) mtX9_isTwice mvX9_isTwice q771 rfl rfl rfl (Nat.le_of_ble_eq_true rfl) (by decide) ⟨Nat.zero_le _, Nat.zero_le _⟩ dX10_leads_110) (fun v110 => ?_)
              refine jr_if_eq K (tgt := 137) dX10_leads_113 (by decide) ?_ ?_
              · exact jr_weak (hk137 x9_90) ⟨rfl, rfl, rfl, rfl, rfl, rfl, rfl, rfl, rfl, rfl, trivial⟩
              · refine jr_iload K dX10_leads_116 rfl ?_
                refine jr_aload_n K dX10_leads_118 rfl ?_
                refine jr_iload K dX10_leads_119 rfl ?_
                refine jr_iconst K dX10_leads_121 (v := (nI 1)) (by decide) ?_
                refine jr_isub K dX10_leads_122 ?_
                refine jr_iald K dX10_leads_123 (fun v123 => ?_)
                refine jr_aload_n K dX10_leads_124 rfl ?_
                refine jr_getA K gf_X10_45 dX10_leads_125 (fun v125 => ?_)
                refine jr_bipush K dX10_leads_128 (v := (nI 7)) (by decide) ?_
                refine jr_iald K dX10_leads_130 (fun v130 => ?_)
                refine jr_iadd K dX10_leads_131 ?_
                refine jr_min K q647 (by decide) (Nat.le_of_ble_eq_true rfl) dX10_leads_132 ?_
                refine jr_istore K (L' := [some (.ref this), some (.ref p1), some (.ref p2), some (.ref p3), some (.int p4), some (.int p5), some (.int p6), some (.int x7_7), some (.int x8_7), some (.int (jmin x9_90 (v123 + v130)))]) dX10_leads_135 (by decide) rfl rfl ?_
                exact jr_weak (hk137 (jmin x9_90 (v123 + v130))) ⟨rfl, rfl, rfl, rfl, rfl, rfl, rfl, rfl, rfl, rfl, trivial⟩
        refine jr_if_le K (tgt := 90) dX10_leads_47 (by decide) ?_ ?_
        · exact jr_weak (hk90 s0_43) ⟨rfl, rfl, rfl, rfl, rfl, rfl, rfl, rfl, rfl, rfl, trivial⟩
        · refine jr_aload_n K dX10_leads_50 rfl ?_
          refine jr_iload K dX10_leads_51 rfl ?_
          refine jr_iconst K dX10_leads_53 (v := (nI 1)) (by decide) ?_
          refine jr_isub K dX10_leads_54 ?_
          refine jr_iald K dX10_leads_55 (fun v55 => ?_)
          refine jr_ldc K (v := (nI 1000000)) q623 (by decide) dX10_leads_56 ?_
          refine jr_icmp_ge K (tgt := 90) dX10_leads_58 (by decide) ?_ ?_
          · exact jr_weak (hk90 s0_43) ⟨rfl, rfl, rfl, rfl, rfl, rfl, rfl, rfl, rfl, rfl, trivial⟩
          · refine jr_iload K dX10_leads_61 rfl ?_
            refine jr_aload_n K dX10_leads_63 rfl ?_
            refine jr_iload K dX10_leads_64 rfl ?_
            refine jr_iconst K dX10_leads_66 (v := (nI 1)) (by decide) ?_
            refine jr_isub K dX10_leads_67 ?_
            refine jr_iald K dX10_leads_68 (fun v68 => ?_)
            refine jr_aload_n K dX10_leads_69 rfl ?_
            refine jr_aload_n K dX10_leads_70 rfl ?_
            refine jr_iload K dX10_leads_71 rfl ?_
            refine jr_iconst K dX10_leads_73 (v := (nI 1)) (by decide) ?_
            refine jr_isub K dX10_leads_74 ?_
            refine jr_iload K dX10_leads_75 rfl ?_
            refine jr_iload K dX10_leads_77 rfl ?_
            refine jr_iload K dX10_leads_79 rfl ?_
            refine jr_calli0 (jrun_V (As := [.ref p1, .int (x8_7 - (nI 1)), .int p4, .int p5, .int p6]) (st := [.int v68, .int s0_43]) (ci := 10) K (metX10_cost K.hG this p1 (x8_7 - (nI 1)) p4 p5 p6 _) mtX10_cost mvX10_cost q752 rfl rfl rfl (Nat.le_of_ble_eq_true rfl) (by decide) ⟨Nat.zero_le _, Nat.zero_le _⟩ dX10_leads_81) (fun v81 => ?_)
            refine jr_iadd K dX10_leads_84 ?_
            refine jr_min K q647 (by decide) (Nat.le_of_ble_eq_true rfl) dX10_leads_85 ?_
            refine jr_istore K (L' := [some (.ref this), some (.ref p1), some (.ref p2), some (.ref p3), some (.int p4), some (.int p5), some (.int p6), some (.int x7_7), some (.int x8_7), some (.int (jmin s0_43 (v68 + v81)))]) dX10_leads_88 (by decide) rfl rfl ?_
            exact jr_weak (hk90 (jmin s0_43 (v68 + v81))) ⟨rfl, rfl, rfl, rfl, rfl, rfl, rfl, rfl, rfl, rfl, trivial⟩
      refine jr_if_le K (tgt := 41) dX10_leads_23 (by decide) ?_ ?_
      · refine jr_ldc K (v := (nI 1000000)) q623 (by decide) dX10_leads_41 ?_
        exact jr_weak (hk43 (nI 1000000)) ⟨rfl, rfl, rfl, rfl, rfl, rfl, rfl, rfl, rfl, trivial⟩
      · refine jr_aload_n K dX10_leads_26 rfl ?_
        refine jr_iload K dX10_leads_27 rfl ?_
        refine jr_iald K dX10_leads_29 (fun v29 => ?_)
        refine jr_aload_n K dX10_leads_30 rfl ?_
        refine jr_getA K gf_X10_45 dX10_leads_31 (fun v31 => ?_)
        refine jr_bipush K dX10_leads_34 (v := (nI 6)) (by decide) ?_
        refine jr_iald K dX10_leads_36 (fun v36 => ?_)
        refine jr_iadd K dX10_leads_37 ?_
        refine jr_goto K (tgt := 43) dX10_leads_38 (by decide) ?_
        exact jr_weak (hk43 (v29 + v36)) ⟨rfl, rfl, rfl, rfl, rfl, rfl, rfl, rfl, rfl, trivial⟩
theorem wX10_leads (K : JK p l R s m args meth c D S0 A0 10 cX10_leads "MoveNotes$Search" 15) (bc bs : Nat) (this : Nat) (p1 : Nat) (p2 : Nat) (p3 : Nat) (p4 : Int32) (p5 : Int32) (p6 : Int32) (Qj : Int32 → JP) (hret : jRetI p l e R s m args below meth c Q D S0 10 cX10_leads Qj) : JR p l e R s m args below meth c Q D S0 10 bc bs (JX10_leads this p1 p2 p3 p4 p5 p6 Qj) 0 [some (.ref this), some (.ref p1), some (.ref p2), some (.ref p3), some (.int p4), some (.int p5), some (.int p6), none, none, none] [] := by
  unfold JX10_leads
  refine jr_ldc K (v := (nI 1000000)) q623 (by decide) dX10_leads_0 ?_
  refine jr_istore K (L' := [some (.ref this), some (.ref p1), some (.ref p2), some (.ref p3), some (.int p4), some (.int p5), some (.int p6), some (.int (nI 1000000)), none, none]) dX10_leads_2 (by decide) rfl rfl ?_
  refine jr_iconst K dX10_leads_4 (v := (nI 0)) (by decide) ?_
  refine jr_istore K (L' := [some (.ref this), some (.ref p1), some (.ref p2), some (.ref p3), some (.int p4), some (.int p5), some (.int p6), some (.int (nI 1000000)), some (.int (nI 0)), none]) dX10_leads_5 (by decide) rfl rfl ?_
  refine jr_ex (fun n7 => ?_)
  refine jr_weak (wX10_leads_7 K bc bs this p1 p2 p3 p4 p5 p6 Qj hret n7 (nI 1000000) (nI 0)) ⟨rfl, rfl, rfl, rfl, rfl, rfl, rfl, rfl, rfl, trivial⟩
theorem metX10_leads (hG : jG l D S0 A0) (this : Nat) (p1 : Nat) (p2 : Nat) (p3 : Nat) (p4 : Int32) (p5 : Int32) (p6 : Int32) (Qj : Int32 → JP) : Met l yX10_leads (ws_ yX10_leads cX10_leads 10 (some .int)) (jrm 15 0 0) (va_Pc [.ref this, .ref p1, .ref p2, .ref p3, .int p4, .int p5, .int p6] (jB D S0 (JX10_leads this p1 p2 p3 p4 p5 p6 Qj))) (va_Qi Qj (fun σ t => jRep D S0.heap.size σ t.heap) (jA S0)) 0 0 (jA S0) :=
  jr_start hG (by decide) (Nat.le_of_ble_eq_true rfl) rfl fun p e s m below meth c K hr hn => wX10_leads K _ _ this p1 p2 p3 p4 p5 p6 Qj (fun _ _ _ _ _ d => jr_iret K hr rfl d)
theorem wX10_goes_162 (nf : Nat) (K : JK p l R s m args meth c D S0 A0 10 cX10_goes "MoveNotes$Search" (57 + (nf + 1))) (bc bs : Nat) (this : Nat) (p1 : Int32) (v104 : Nat) (v113 : Int32) (x5_121 : Int32) (v138 : Int32) (v153 : Int32) (k243 : Int32 → JP) (hk243 : ∀ (y8_243 : Int32), JR p l e R s m args below meth c Q D S0 10 bc bs (k243 y8_243) 243 [some (.ref this), some (.int p1), some (.int (jrem p1 (nI 2))), some (.ref v104), some (.int v113), some (.int x5_121), some (.int v138), none, some (.int y8_243), none] []) : ∀ (n : Nat) (x8_162 : Int32) (x9_162 : Int32), JR p l e R s m args below meth c Q D S0 10 bc bs (jit (FX10_goes_162 this p1 v138 v153 k243) (fun _ _ => jbot) n x8_162 x9_162) 162 [some (.ref this), some (.int p1), some (.int (jrem p1 (nI 2))), some (.ref v104), some (.int v113), some (.int x5_121), some (.int v138), some (.int v153), some (.int x8_162), some (.int x9_162)] [] := by
  intro n
  induction n with
  | zero =>
    intro x8_162 x9_162
    exact JR.bot
  | succ n ih162 =>
    intro x8_162 x9_162
    show JR p l e R s m args below meth c Q D S0 10 bc bs (FX10_goes_162 this p1 v138 v153 k243 (jit (FX10_goes_162 this p1 v138 v153 k243) (fun _ _ => jbot) n) x8_162 x9_162) 162 [some (.ref this), some (.int p1), some (.int (jrem p1 (nI 2))), some (.ref v104), some (.int v113), some (.int x5_121), some (.int v138), some (.int v153), some (.int x8_162), some (.int x9_162)] []
    generalize jit (FX10_goes_162 this p1 v138 v153 k243) (fun _ _ => jbot) n = rec162 at ih162 ⊢
    unfold FX10_goes_162
    refine jr_iload K dX10_goes_162 rfl ?_
    refine jr_aload_n K dX10_goes_164 rfl ?_
    refine jr_getA K gf_X10_54 dX10_goes_165 (fun v165 => ?_)
    refine jr_getI K gf_X10_141 dX10_goes_168 (fun v168 => ?_)
    refine jr_icmp_ge K (tgt := 243) dX10_goes_171 (by decide) ?_ ?_
    · exact jr_weak (hk243 x8_162) ⟨rfl, rfl, rfl, rfl, rfl, rfl, rfl, rfl, trivial⟩
    · refine jr_aload_n K dX10_goes_174 rfl ?_
      refine jr_iload K dX10_goes_175 rfl ?_
      refine jr_calli0 (jrun_V (As := [.int x9_162]) (st := []) (ci := 10) K (metX10_isIn K.hG this x9_162 _) mtX10_isIn mvX10_isIn q643 rfl rfl rfl (Nat.le_of_ble_eq_true rfl) (by omega) ⟨Nat.zero_le _, Nat.zero_le _⟩ dX10_goes_177) (fun v177 => ?_)
      refine jr_join (fun (k235 : Int32 → JP) => ∀ (s0_235 : Int32), JR p l e R s m args below meth c Q D S0 10 bc bs (k235 s0_235) 235 [some (.ref this), some (.int p1), some (.int (jrem p1 (nI 2))), some (.ref v104), some (.int v113), some (.int x5_121), some (.int v138), some (.int v153), none, some (.int x9_162)] [.int s0_235]) ?_ (fun k235 hk235 => ?_)
      · intro s0_235
        refine jr_istore K (L' := [some (.ref this), some (.int p1), some (.int (jrem p1 (nI 2))), some (.ref v104), some (.int v113), some (.int x5_121), some (.int v138), some (.int v153), some (.int s0_235), some (.int x9_162)]) dX10_goes_235 (by decide) rfl rfl ?_
        refine jr_iinc K (v := (x9_162 + (nI 1))) (L' := [some (.ref this), some (.int p1), some (.int (jrem p1 (nI 2))), some (.ref v104), some (.int v113), some (.int x5_121), some (.int v138), some (.int v153), some (.int s0_235), some (.int (x9_162 + (nI 1)))]) dX10_goes_237 rfl rfl (by decide) rfl rfl ?_
        refine jr_goto K (tgt := 162) dX10_goes_240 (by decide) ?_
        exact jr_weak (ih162 s0_235 (x9_162 + (nI 1))) ⟨rfl, rfl, rfl, rfl, rfl, rfl, rfl, rfl, rfl, rfl, trivial⟩
      refine jr_if_eq K (tgt := 233) dX10_goes_180 (by decide) ?_ ?_
      · refine jr_iload K dX10_goes_233 rfl ?_
        exact jr_weak (hk235 x8_162) ⟨rfl, rfl, rfl, rfl, rfl, rfl, rfl, rfl, rfl, trivial⟩
      · refine jr_ldc K (v := (nI 1000000)) q623 (by decide) dX10_goes_183 ?_
        refine jr_iload K dX10_goes_185 rfl ?_
        refine jr_aload_n K dX10_goes_187 rfl ?_
        refine jr_aload_n K dX10_goes_188 rfl ?_
        refine jr_getA K gf_X10_54 dX10_goes_189 (fun v189 => ?_)
        refine jr_getA K gf_X10_147 dX10_goes_192 (fun v192 => ?_)
        refine jr_iload K dX10_goes_195 rfl ?_
        refine jr_aald K (by decide) dX10_goes_197 (fun v197 => ?_)
        refine jr_aload_n K dX10_goes_198 rfl ?_
        refine jr_getA K gf_X10_29 dX10_goes_199 (fun v199 => ?_)
        refine jr_iload K dX10_goes_202 rfl ?_
        refine jr_aald K (by decide) dX10_goes_204 (fun v204 => ?_)
        refine jr_iload_n K dX10_goes_205 rfl ?_
        refine jr_aald K (by decide) dX10_goes_206 (fun v206 => ?_)
        refine jr_aload_n K dX10_goes_207 rfl ?_
        refine jr_getA K gf_X10_29 dX10_goes_208 (fun v208 => ?_)
        refine jr_iload K dX10_goes_211 rfl ?_
        refine jr_aald K (by decide) dX10_goes_213 (fun v213 => ?_)
        refine jr_iload_n K dX10_goes_214 rfl ?_
        refine jr_iconst K dX10_goes_215 (v := (nI 1)) (by decide) ?_
        refine jr_iadd K dX10_goes_216 ?_
        refine jr_aald K (by decide) dX10_goes_217 (fun v217 => ?_)
        refine jr_iload K dX10_goes_218 rfl ?_
        refine jr_iload_n K dX10_goes_220 rfl ?_
        refine jr_iload K dX10_goes_221 rfl ?_
        refine jr_calli0 (jrun_V (As := [.ref v197, .ref v206, .ref v217, .int v153, .int (jrem p1 (nI 2)), .int v138]) (st := [.int x8_162, .int (nI 1000000)]) (ci := 10) K (metX10_leads K.hG this v197 v206 v217 v153 (jrem p1 (nI 2)) v138 _) mtX10_leads mvX10_leads q748 rfl rfl rfl (Nat.le_of_ble_eq_true rfl) (by omega) ⟨Nat.zero_le _, Nat.zero_le _⟩ dX10_goes_223) (fun v223 => ?_)
        refine jr_iadd K dX10_goes_226 ?_
        refine jr_min K q647 (by omega) (Nat.le_of_ble_eq_true rfl) dX10_goes_227 ?_
        refine jr_goto K (tgt := 235) dX10_goes_230 (by decide) ?_
        exact jr_weak (hk235 (jmin (nI 1000000) (x8_162 + v223))) ⟨rfl, rfl, rfl, rfl, rfl, rfl, rfl, rfl, rfl, trivial⟩
theorem wX10_goes_121 (nf : Nat) (K : JK p l R s m args meth c D S0 A0 10 cX10_goes "MoveNotes$Search" (57 + (nf + 1))) (bc bs : Nat) (rJX10_goes : Nat → Int32 → JP → JP) (this : Nat) (p1 : Int32) (Qj : JP) (v104 : Nat) (v113 : Int32) (ihJX10_goes : ∀ (this : Nat) (p1 : Int32) (Qj : JP), Met l yX10_goes (ws_ yX10_goes cX10_goes 10 none) (jrm (57 + nf) 0 0) (va_Pc [.ref this, .int p1] (jB D S0 (rJX10_goes this p1 Qj))) (va_Qv Qj (fun σ t => jRep D S0.heap.size σ t.heap) (jA S0)) 0 0 (jA S0)) (hret : jRetV p l e R s m args below meth c Q D S0 10 cX10_goes Qj) : ∀ (n : Nat) (x5_121 : Int32), JR p l e R s m args below meth c Q D S0 10 bc bs (jit (FX10_goes_121 rJX10_goes this p1 Qj v104 v113) (fun _ => jbot) n x5_121) 121 [some (.ref this), some (.int p1), some (.int (jrem p1 (nI 2))), some (.ref v104), some (.int v113), some (.int x5_121), none, none, none, none] [] := by
  intro n
  induction n with
  | zero =>
    intro x5_121
    exact JR.bot
  | succ n ih121 =>
    intro x5_121
    show JR p l e R s m args below meth c Q D S0 10 bc bs (FX10_goes_121 rJX10_goes this p1 Qj v104 v113 (jit (FX10_goes_121 rJX10_goes this p1 Qj v104 v113) (fun _ => jbot) n) x5_121) 121 [some (.ref this), some (.int p1), some (.int (jrem p1 (nI 2))), some (.ref v104), some (.int v113), some (.int x5_121), none, none, none, none] []
    generalize jit (FX10_goes_121 rJX10_goes this p1 Qj v104 v113) (fun _ => jbot) n = rec121 at ih121 ⊢
    unfold FX10_goes_121
    refine jr_iload K dX10_goes_121 rfl ?_
    refine jr_iload K dX10_goes_123 rfl ?_
    refine jr_icmp_ge K (tgt := 298) dX10_goes_125 (by decide) ?_ ?_
    · exact hret _ _ _ _ dX10_goes_298
    · refine jr_aload_n K dX10_goes_128 rfl ?_
      refine jr_getI K gf_X10_156 dX10_goes_129 (fun v129 => ?_)
      refine jr_if_ne K (tgt := 298) dX10_goes_132 (by decide) ?_ ?_
      · exact hret _ _ _ _ dX10_goes_298
      · refine jr_aload_n K dX10_goes_135 rfl ?_
        refine jr_iload K dX10_goes_136 rfl ?_
        refine jr_iald K dX10_goes_138 (fun v138 => ?_)
        refine jr_istore K (L' := [some (.ref this), some (.int p1), some (.int (jrem p1 (nI 2))), some (.ref v104), some (.int v113), some (.int x5_121), some (.int v138), none, none, none]) dX10_goes_139 (by decide) rfl rfl ?_
        refine jr_aload_n K dX10_goes_141 rfl ?_
        refine jr_getA K gf_X10_12 dX10_goes_142 (fun v142 => ?_)
        refine jr_getA K gf_X10_58 dX10_goes_145 (fun v145 => ?_)
        refine jr_iload K dX10_goes_148 rfl ?_
        refine jr_bipush K dX10_goes_150 (v := (nI 36)) (by decide) ?_
        refine jr_idiv K dX10_goes_152 (by decide) ?_
        refine jr_iald K dX10_goes_153 (fun v153 => ?_)
        refine jr_istore K (L' := [some (.ref this), some (.int p1), some (.int (jrem p1 (nI 2))), some (.ref v104), some (.int v113), some (.int x5_121), some (.int v138), some (.int v153), none, none]) dX10_goes_154 (by decide) rfl rfl ?_
        refine jr_iconst K dX10_goes_156 (v := (nI 0)) (by decide) ?_
        refine jr_istore K (L' := [some (.ref this), some (.int p1), some (.int (jrem p1 (nI 2))), some (.ref v104), some (.int v113), some (.int x5_121), some (.int v138), some (.int v153), some (.int (nI 0)), none]) dX10_goes_157 (by decide) rfl rfl ?_
        refine jr_iconst K dX10_goes_159 (v := (nI 0)) (by decide) ?_
        refine jr_istore K (L' := [some (.ref this), some (.int p1), some (.int (jrem p1 (nI 2))), some (.ref v104), some (.int v113), some (.int x5_121), some (.int v138), some (.int v153), some (.int (nI 0)), some (.int (nI 0))]) dX10_goes_160 (by decide) rfl rfl ?_
        refine jr_ex (fun n162 => ?_)
        refine jr_weak (wX10_goes_162 nf K bc bs this p1 v104 v113 x5_121 v138 v153 _ ?_ n162 (nI 0) (nI 0)) ⟨rfl, rfl, rfl, rfl, rfl, rfl, rfl, rfl, rfl, rfl, trivial⟩
        · intro y8_243
          refine jr_iload K dX10_goes_243 rfl ?_
          refine jr_aload_n K dX10_goes_245 rfl ?_
          refine jr_getI K gf_X10_150 dX10_goes_246 (fun v246 => ?_)
          refine jr_join (fun (k292 : JP) => JR p l e R s m args below meth c Q D S0 10 bc bs k292 292 [some (.ref this), some (.int p1), some (.int (jrem p1 (nI 2))), some (.ref v104), some (.int v113), some (.int x5_121), none, none, none, none] []) ?_ (fun k292 hk292 => ?_)
          · refine jr_iinc K (v := (x5_121 + (nI 1))) (L' := [some (.ref this), some (.int p1), some (.int (jrem p1 (nI 2))), some (.ref v104), some (.int v113), some (.int (x5_121 + (nI 1))), none, none, none, none]) dX10_goes_292 rfl rfl (by decide) rfl rfl ?_
            refine jr_goto K (tgt := 121) dX10_goes_295 (by decide) ?_
            exact jr_weak (ih121 (x5_121 + (nI 1))) ⟨rfl, rfl, rfl, rfl, rfl, rfl, trivial⟩
          refine jr_icmp_le K (tgt := 255) dX10_goes_249 (by decide) ?_ ?_
          · refine jr_aload_n K dX10_goes_255 rfl ?_
            refine jr_getA K gf_X10_12 dX10_goes_256 (fun v256 => ?_)
            refine jr_iload K dX10_goes_259 rfl ?_
            refine jr_calli0 (jrun_V (As := [.int v138]) (st := []) (ci := 8) K (metX8_goes K.hG v256 v138 _) mtX8_goes mvX8_goes q659 rfl rfl rfl (Nat.le_of_ble_eq_true rfl) (by omega) ⟨Nat.zero_le _, Nat.zero_le _⟩ dX10_goes_261) (fun v261 => ?_)
            refine jr_istore K (L' := [some (.ref this), some (.int p1), some (.int (jrem p1 (nI 2))), some (.ref v104), some (.int v113), some (.int x5_121), some (.int v138), none, some (.int y8_243), some (.int v261)]) dX10_goes_264 (by decide) rfl rfl ?_
            refine jr_aload_n K dX10_goes_266 rfl ?_
            refine jr_getA K gf_X10_32 dX10_goes_267 (fun v267 => ?_)
            refine jr_iload_n K dX10_goes_270 rfl ?_
            refine jr_iload K dX10_goes_271 rfl ?_
            refine jr_iast K dX10_goes_273 ?_
            refine jr_aload_n K dX10_goes_274 rfl ?_
            refine jr_iload_n K dX10_goes_275 rfl ?_
            refine jr_iconst K dX10_goes_276 (v := (nI 1)) (by decide) ?_
            refine jr_iadd K dX10_goes_277 ?_
            refine jr_callv0 (jrun_V (As := [.int (p1 + (nI 1))]) (st := []) (ci := 10) K (ihJX10_goes this (p1 + (nI 1)) _) mtX10_goes mvX10_goes q624 rfl rfl rfl (Nat.le_of_ble_eq_true rfl) (by omega) ⟨Nat.zero_le _, Nat.zero_le _⟩ dX10_goes_278) ?_
            refine jr_aload_n K dX10_goes_281 rfl ?_
            refine jr_getA K gf_X10_12 dX10_goes_282 (fun v282 => ?_)
            refine jr_iload K dX10_goes_285 rfl ?_
            refine jr_iload K dX10_goes_287 rfl ?_
            refine jr_callv0 (jrun_V (As := [.int v138, .int v261]) (st := []) (ci := 8) K (metX8_comes K.hG v282 v138 v261 _) mtX8_comes mvX8_comes q783 rfl rfl rfl (Nat.le_of_ble_eq_true rfl) (by omega) ⟨Nat.zero_le _, Nat.zero_le _⟩ dX10_goes_289) ?_
            exact jr_weak (hk292) ⟨rfl, rfl, rfl, rfl, rfl, rfl, trivial⟩
          · refine jr_goto K (tgt := 292) dX10_goes_252 (by decide) ?_
            exact jr_weak (hk292) ⟨rfl, rfl, rfl, rfl, rfl, rfl, trivial⟩
theorem wX10_goes (nf : Nat) (K : JK p l R s m args meth c D S0 A0 10 cX10_goes "MoveNotes$Search" (57 + (nf + 1))) (bc bs : Nat) (rJX10_goes : Nat → Int32 → JP → JP) (this : Nat) (p1 : Int32) (Qj : JP) (ihJX10_goes : ∀ (this : Nat) (p1 : Int32) (Qj : JP), Met l yX10_goes (ws_ yX10_goes cX10_goes 10 none) (jrm (57 + nf) 0 0) (va_Pc [.ref this, .int p1] (jB D S0 (rJX10_goes this p1 Qj))) (va_Qv Qj (fun σ t => jRep D S0.heap.size σ t.heap) (jA S0)) 0 0 (jA S0)) (hret : jRetV p l e R s m args below meth c Q D S0 10 cX10_goes Qj) : JR p l e R s m args below meth c Q D S0 10 bc bs (JX10_goesF rJX10_goes this p1 Qj) 0 [some (.ref this), some (.int p1), none, none, none, none, none, none, none, none] [] := by
  unfold JX10_goesF
  refine jr_aload_n K dX10_goes_0 rfl ?_
  refine jr_dup K dX10_goes_1 rfl ?_
  refine jr_getI K gf_X10_153 dX10_goes_2 (fun v2 => ?_)
  refine jr_iconst K dX10_goes_5 (v := (nI 1)) (by decide) ?_
  refine jr_iadd K dX10_goes_6 ?_
  refine jr_put K pf_X10_153 dX10_goes_7 rfl rfl ?_
  refine jr_aload_n K dX10_goes_10 rfl ?_
  refine jr_aload_n K dX10_goes_11 rfl ?_
  refine jr_getI K gf_X10_153 dX10_goes_12 (fun v12 => ?_)
  refine jr_sipush K dX10_goes_15 (v := (nI 8000)) (by decide) ?_
  refine jr_join (fun (k26 : Int32 → JP) => ∀ (s1_26 : Int32), JR p l e R s m args below meth c Q D S0 10 bc bs (k26 s1_26) 26 [some (.ref this), some (.int p1), none, none, none, none, none, none, none, none] [.int s1_26, .ref this]) ?_ (fun k26 hk26 => ?_)
  · intro s1_26
    refine jr_putZ K pf_X10_156 dX10_goes_26 ?_
    refine jr_aload_n K dX10_goes_29 rfl ?_
    refine jr_getI K gf_X10_156 dX10_goes_30 (fun v30 => ?_)
    refine jr_if_ne K (tgt := 44) dX10_goes_33 (by decide) ?_ ?_
    · exact hret _ _ _ _ dX10_goes_44
    · refine jr_aload_n K dX10_goes_36 rfl ?_
      refine jr_iload_n K dX10_goes_37 rfl ?_
      refine jr_calli0 (jrun_V (As := [.int p1]) (st := []) (ci := 10) K (metX10_bars K.hG this p1 _) mtX10_bars mvX10_bars q628 rfl rfl rfl (Nat.le_of_ble_eq_true rfl) (by omega) ⟨Nat.zero_le _, Nat.zero_le _⟩ dX10_goes_38) (fun v38 => ?_)
      refine jr_if_eq K (tgt := 45) dX10_goes_41 (by decide) ?_ ?_
      · refine jr_aload_n K dX10_goes_45 rfl ?_
        refine jr_aload_n K dX10_goes_46 rfl ?_
        refine jr_getI K gf_X10_162 dX10_goes_47 (fun v47 => ?_)
        refine jr_iload_n K dX10_goes_50 rfl ?_
        refine jr_max K q636 (by omega) (Nat.le_of_ble_eq_true rfl) dX10_goes_51 ?_
        refine jr_put K pf_X10_162 dX10_goes_54 rfl rfl ?_
        refine jr_aload_n K dX10_goes_57 rfl ?_
        refine jr_iload_n K dX10_goes_58 rfl ?_
        refine jr_calli0 (jrun_V (As := [.int p1]) (st := []) (ci := 10) K (metX10_isReading K.hG this p1 _) mtX10_isReading mvX10_isReading q639 rfl rfl rfl (Nat.le_of_ble_eq_true rfl) (by omega) ⟨Nat.zero_le _, Nat.zero_le _⟩ dX10_goes_59) (fun v59 => ?_)
        refine jr_join (fun (k70 : JP) => JR p l e R s m args below meth c Q D S0 10 bc bs k70 70 [some (.ref this), some (.int p1), none, none, none, none, none, none, none, none] []) ?_ (fun k70 hk70 => ?_)
        · refine jr_iload_n K dX10_goes_70 rfl ?_
          refine jr_bipush K dX10_goes_71 (v := (nI 30)) (by decide) ?_
          refine jr_icmp_eq K (tgt := 94) dX10_goes_73 (by decide) ?_ ?_
          · exact hret _ _ _ _ dX10_goes_94
          · refine jr_aload_n K dX10_goes_76 rfl ?_
            refine jr_getI K gf_X10_122 dX10_goes_77 (fun v77 => ?_)
            refine jr_join (fun (k95 : JP) => JR p l e R s m args below meth c Q D S0 10 bc bs k95 95 [some (.ref this), some (.int p1), none, none, none, none, none, none, none, none] []) ?_ (fun k95 hk95 => ?_)
            · refine jr_iload_n K dX10_goes_95 rfl ?_
              refine jr_iconst K dX10_goes_96 (v := (nI 2)) (by decide) ?_
              refine jr_irem K dX10_goes_97 (by decide) ?_
              refine jr_istore_n K (L' := [some (.ref this), some (.int p1), some (.int (jrem p1 (nI 2))), none, none, none, none, none, none, none]) dX10_goes_98 (by decide) rfl rfl ?_
              refine jr_aload_n K dX10_goes_99 rfl ?_
              refine jr_getA K gf_X10_24 dX10_goes_100 (fun v100 => ?_)
              refine jr_iload_n K dX10_goes_103 rfl ?_
              refine jr_aald K (by decide) dX10_goes_104 (fun v104 => ?_)
              refine jr_astore_n K (L' := [some (.ref this), some (.int p1), some (.int (jrem p1 (nI 2))), some (.ref v104), none, none, none, none, none, none]) dX10_goes_105 (by decide) rfl rfl ?_
              refine jr_aload_n K dX10_goes_106 rfl ?_
              refine jr_aload_n K dX10_goes_107 rfl ?_
              refine jr_getA K gf_X10_12 dX10_goes_108 (fun v108 => ?_)
              refine jr_iload_n K dX10_goes_111 rfl ?_
              refine jr_aload_n K dX10_goes_112 rfl ?_
              refine jr_calli0 (jrun_V (As := [.ref v108, .int (jrem p1 (nI 2)), .ref v104]) (st := []) (ci := 10) K (metX10_gathers K.hG this v108 (jrem p1 (nI 2)) v104 _) mtX10_gathers mvX10_gathers q671 rfl rfl rfl (Nat.le_of_ble_eq_true rfl) (by omega) ⟨Nat.zero_le _, Nat.zero_le _⟩ dX10_goes_113) (fun v113 => ?_)
              refine jr_istore K (L' := [some (.ref this), some (.int p1), some (.int (jrem p1 (nI 2))), some (.ref v104), some (.int v113), none, none, none, none, none]) dX10_goes_116 (by decide) rfl rfl ?_
              refine jr_iconst K dX10_goes_118 (v := (nI 0)) (by decide) ?_
              refine jr_istore K (L' := [some (.ref this), some (.int p1), some (.int (jrem p1 (nI 2))), some (.ref v104), some (.int v113), some (.int (nI 0)), none, none, none, none]) dX10_goes_119 (by decide) rfl rfl ?_
              refine jr_ex (fun n121 => ?_)
              refine jr_weak (wX10_goes_121 nf K bc bs rJX10_goes this p1 Qj v104 v113 ihJX10_goes hret n121 (nI 0)) ⟨rfl, rfl, rfl, rfl, rfl, rfl, trivial⟩
            refine jr_if_ne K (tgt := 95) dX10_goes_80 (by decide) ?_ ?_
            · exact jr_weak (hk95) ⟨rfl, rfl, trivial⟩
            · refine jr_iload_n K dX10_goes_83 rfl ?_
              refine jr_aload_n K dX10_goes_84 rfl ?_
              refine jr_getA K gf_X10_54 dX10_goes_85 (fun v85 => ?_)
              refine jr_getI K gf_X10_138 dX10_goes_88 (fun v88 => ?_)
              refine jr_icmp_ne K (tgt := 95) dX10_goes_91 (by decide) ?_ ?_
              · exact jr_weak (hk95) ⟨rfl, rfl, trivial⟩
              · exact hret _ _ _ _ dX10_goes_94
        refine jr_if_eq K (tgt := 70) dX10_goes_62 (by decide) ?_ ?_
        · exact jr_weak (hk70) ⟨rfl, rfl, trivial⟩
        · refine jr_aload_n K dX10_goes_65 rfl ?_
          refine jr_iload_n K dX10_goes_66 rfl ?_
          refine jr_callv0 (jrun_V (As := [.int p1]) (st := []) (ci := 10) K (metX10_found K.hG this p1 _) mtX10_found mvX10_found q650 rfl rfl rfl (Nat.le_of_ble_eq_true rfl) (by omega) ⟨Nat.zero_le _, Nat.zero_le _⟩ dX10_goes_67) ?_
          exact jr_weak (hk70) ⟨rfl, rfl, trivial⟩
      · exact hret _ _ _ _ dX10_goes_44
  refine jr_icmp_le K (tgt := 25) dX10_goes_18 (by decide) ?_ ?_
  · refine jr_iconst K dX10_goes_25 (v := (nI 0)) (by decide) ?_
    exact jr_weak (hk26 (nI 0)) ⟨rfl, rfl, trivial⟩
  · refine jr_iconst K dX10_goes_21 (v := (nI 1)) (by decide) ?_
    refine jr_goto K (tgt := 26) dX10_goes_22 (by decide) ?_
    exact jr_weak (hk26 (nI 1)) ⟨rfl, rfl, trivial⟩
theorem metX10_goesR (hG : jG l D S0 A0) : ∀ n : Nat, (∀ (this : Nat) (p1 : Int32) (Qj : JP), Met l yX10_goes (ws_ yX10_goes cX10_goes 10 none) (jrm (57 + n) 0 0) (va_Pc [.ref this, .int p1] (jB D S0 (JX10_goes n this p1 Qj))) (va_Qv Qj (fun σ t => jRep D S0.heap.size σ t.heap) (jA S0)) 0 0 (jA S0)) := by
  intro n
  induction n with
  | zero =>
    exact (fun this p1 Qj =>
    jr_start hG (by decide) (Nat.le_of_ble_eq_true rfl) rfl fun p e s m below meth c K hr hn => JR.bot)
  | succ n ih =>
    exact (fun this p1 Qj =>
    jr_start hG (by decide) (Nat.le_of_ble_eq_true rfl) rfl fun p e s m below meth c K hr hn => wX10_goes n K _ _ _ this p1 Qj ih (fun _ _ _ _ d => jr_vret K hr d))
theorem metX10_goes (hG : jG l D S0 A0) (n : Nat) : ∀ (this : Nat) (p1 : Int32) (Qj : JP), Met l yX10_goes (ws_ yX10_goes cX10_goes 10 none) (jrm (57 + n) 0 0) (va_Pc [.ref this, .int p1] (jB D S0 (JX10_goes n this p1 Qj))) (va_Qv Qj (fun σ t => jRep D S0.heap.size σ t.heap) (jA S0)) 0 0 (jA S0) := (metX10_goesR hG n)
theorem wX10_walks_34 (K : JK p l R s m args meth c D S0 A0 4 cX10_walks "MoveNotes$Search" 98) (bc bs : Nat) (this : Nat) (x2_21 : Int32) (k66 : JP) (hk66 : JR p l e R s m args below meth c Q D S0 4 bc bs k66 66 [some (.ref this), none, some (.int x2_21), none] []) : ∀ (n : Nat) (x3_34 : Int32), JR p l e R s m args below meth c Q D S0 4 bc bs (jit (FX10_walks_34 this x2_21 k66) (fun _ => jbot) n x3_34) 34 [some (.ref this), none, some (.int x2_21), some (.int x3_34)] [] := by
  intro n
  induction n with
  | zero =>
    intro x3_34
    exact JR.bot
  | succ n ih34 =>
    intro x3_34
    show JR p l e R s m args below meth c Q D S0 4 bc bs (FX10_walks_34 this x2_21 k66 (jit (FX10_walks_34 this x2_21 k66) (fun _ => jbot) n) x3_34) 34 [some (.ref this), none, some (.int x2_21), some (.int x3_34)] []
    generalize jit (FX10_walks_34 this x2_21 k66) (fun _ => jbot) n = rec34 at ih34 ⊢
    unfold FX10_walks_34
    refine jr_iload_n K dX10_walks_34 rfl ?_
    refine jr_bipush K dX10_walks_35 (v := (nI 24)) (by decide) ?_
    refine jr_icmp_gt K (tgt := 66) dX10_walks_37 (by decide) ?_ ?_
    · exact jr_weak (hk66) ⟨rfl, rfl, trivial⟩
    · refine jr_aload_n K dX10_walks_40 rfl ?_
      refine jr_getA K gf_X10_29 dX10_walks_41 (fun v41 => ?_)
      refine jr_iload_n K dX10_walks_44 rfl ?_
      refine jr_aald K (by decide) dX10_walks_45 (fun v45 => ?_)
      refine jr_iconst K dX10_walks_46 (v := (nI 0)) (by decide) ?_
      refine jr_aald K (by decide) dX10_walks_47 (fun v47 => ?_)
      refine jr_iload_n K dX10_walks_48 rfl ?_
      refine jr_iload_n K dX10_walks_49 rfl ?_
      refine jr_join (fun (k59 : Int32 → JP) => ∀ (s2_59 : Int32), JR p l e R s m args below meth c Q D S0 4 bc bs (k59 s2_59) 59 [some (.ref this), none, some (.int x2_21), some (.int x3_34)] [.int s2_59, .int x3_34, .ref v47]) ?_ (fun k59 hk59 => ?_)
      · intro s2_59
        refine jr_iast K dX10_walks_59 ?_
        refine jr_iinc K (v := (x3_34 + (nI 1))) (L' := [some (.ref this), none, some (.int x2_21), some (.int (x3_34 + (nI 1)))]) dX10_walks_60 rfl rfl (by decide) rfl rfl ?_
        refine jr_goto K (tgt := 34) dX10_walks_63 (by decide) ?_
        exact jr_weak (ih34 (x3_34 + (nI 1))) ⟨rfl, rfl, rfl, trivial⟩
      refine jr_if_ne K (tgt := 57) dX10_walks_50 (by decide) ?_ ?_
      · refine jr_ldc K (v := (nI 1000000)) q623 (by decide) dX10_walks_57 ?_
        exact jr_weak (hk59 (nI 1000000)) ⟨rfl, rfl, rfl, trivial⟩
      · refine jr_iconst K dX10_walks_53 (v := (nI 0)) (by decide) ?_
        refine jr_goto K (tgt := 59) dX10_walks_54 (by decide) ?_
        exact jr_weak (hk59 (nI 0)) ⟨rfl, rfl, rfl, trivial⟩
theorem wX10_walks_21 (K : JK p l R s m args meth c D S0 A0 4 cX10_walks "MoveNotes$Search" 98) (bc bs : Nat) (this : Nat) (k72 : JP) (hk72 : JR p l e R s m args below meth c Q D S0 4 bc bs k72 72 [some (.ref this), none, none, none] []) : ∀ (n : Nat) (x2_21 : Int32), JR p l e R s m args below meth c Q D S0 4 bc bs (jit (FX10_walks_21 this k72) (fun _ => jbot) n x2_21) 21 [some (.ref this), none, some (.int x2_21), none] [] := by
  intro n
  induction n with
  | zero =>
    intro x2_21
    exact JR.bot
  | succ n ih21 =>
    intro x2_21
    show JR p l e R s m args below meth c Q D S0 4 bc bs (FX10_walks_21 this k72 (jit (FX10_walks_21 this k72) (fun _ => jbot) n) x2_21) 21 [some (.ref this), none, some (.int x2_21), none] []
    generalize jit (FX10_walks_21 this k72) (fun _ => jbot) n = rec21 at ih21 ⊢
    unfold FX10_walks_21
    refine jr_iload_n K dX10_walks_21 rfl ?_
    refine jr_aload_n K dX10_walks_22 rfl ?_
    refine jr_getA K gf_X10_54 dX10_walks_23 (fun v23 => ?_)
    refine jr_getI K gf_X10_141 dX10_walks_26 (fun v26 => ?_)
    refine jr_icmp_ge K (tgt := 72) dX10_walks_29 (by decide) ?_ ?_
    · exact jr_weak (hk72) ⟨rfl, trivial⟩
    · refine jr_iconst K dX10_walks_32 (v := (nI 0)) (by decide) ?_
      refine jr_istore_n K (L' := [some (.ref this), none, some (.int x2_21), some (.int (nI 0))]) dX10_walks_33 (by decide) rfl rfl ?_
      refine jr_ex (fun n34 => ?_)
      refine jr_weak (wX10_walks_34 K bc bs this x2_21 _ ?_ n34 (nI 0)) ⟨rfl, rfl, rfl, trivial⟩
      · refine jr_iinc K (v := (x2_21 + (nI 1))) (L' := [some (.ref this), none, some (.int (x2_21 + (nI 1))), none]) dX10_walks_66 rfl rfl (by decide) rfl rfl ?_
        refine jr_goto K (tgt := 21) dX10_walks_69 (by decide) ?_
        exact jr_weak (ih21 (x2_21 + (nI 1))) ⟨rfl, rfl, trivial⟩
theorem wX10_walks (K : JK p l R s m args meth c D S0 A0 4 cX10_walks "MoveNotes$Search" 98) (bc bs : Nat) (this : Nat) (p1 : Int32) (Qj : JP) (hret : jRetV p l e R s m args below meth c Q D S0 4 cX10_walks Qj) : JR p l e R s m args below meth c Q D S0 4 bc bs (JX10_walks this p1 Qj) 0 [some (.ref this), some (.int p1), none, none] [] := by
  unfold JX10_walks
  refine jr_aload_n K dX10_walks_0 rfl ?_
  refine jr_iload_n K dX10_walks_1 rfl ?_
  refine jr_put K pf_X10_150 dX10_walks_2 rfl rfl ?_
  refine jr_aload_n K dX10_walks_5 rfl ?_
  refine jr_getA K gf_X10_12 dX10_walks_6 (fun v6 => ?_)
  refine jr_aload_n K dX10_walks_9 rfl ?_
  refine jr_getA K gf_X10_54 dX10_walks_10 (fun v10 => ?_)
  refine jr_getA K gf_X10_234 dX10_walks_13 (fun v13 => ?_)
  refine jr_callv0 (jrun_V (As := [.ref v13]) (st := []) (ci := 8) K (metX8_be K.hG v6 v13 _) mtX8_be mvX8_be q616 rfl rfl rfl (Nat.le_of_ble_eq_true rfl) (by decide) ⟨Nat.zero_le _, Nat.zero_le _⟩ dX10_walks_16) ?_
  refine jr_iconst K dX10_walks_19 (v := (nI 0)) (by decide) ?_
  refine jr_istore_n K (L' := [some (.ref this), some (.int p1), some (.int (nI 0)), none]) dX10_walks_20 (by decide) rfl rfl ?_
  refine jr_ex (fun n21 => ?_)
  refine jr_weak (wX10_walks_21 K bc bs this _ ?_ n21 (nI 0)) ⟨rfl, rfl, trivial⟩
  · refine jr_aload_n K dX10_walks_72 rfl ?_
    refine jr_iconst K dX10_walks_73 (v := (nI 0)) (by decide) ?_
    refine jr_callv0 (jrun_V (As := [.int (nI 0)]) (st := []) (ci := 10) K (metX10_goes K.hG 40 this (nI 0) _) mtX10_goes mvX10_goes q624 rfl rfl rfl (Nat.le_of_ble_eq_true rfl) (by decide) ⟨Nat.zero_le _, Nat.zero_le _⟩ dX10_walks_74) ?_
    exact hret _ _ _ _ dX10_walks_77
theorem metX10_walks (hG : jG l D S0 A0) (this : Nat) (p1 : Int32) (Qj : JP) : Met l yX10_walks (ws_ yX10_walks cX10_walks 4 none) (jrm 98 0 0) (va_Pc [.ref this, .int p1] (jB D S0 (JX10_walks this p1 Qj))) (va_Qv Qj (fun σ t => jRep D S0.heap.size σ t.heap) (jA S0)) 0 0 (jA S0) :=
  jr_start hG (by decide) (Nat.le_of_ble_eq_true rfl) rfl fun p e s m below meth c K hr hn => wX10_walks K _ _ this p1 Qj (fun _ _ _ _ d => jr_vret K hr d)
theorem wX10_least_13 (K : JK p l R s m args meth c D S0 A0 3 cX10_least "MoveNotes$Search" 99) (bc bs : Nat) (this : Nat) (k49 : JP) (hk49 : JR p l e R s m args below meth c Q D S0 3 bc bs k49 49 [some (.ref this), none, none] []) : ∀ (n : Nat) (x2_13 : Int32), JR p l e R s m args below meth c Q D S0 3 bc bs (jit (FX10_least_13 this k49) (fun _ => jbot) n x2_13) 13 [some (.ref this), none, some (.int x2_13)] [] := by
  intro n
  induction n with
  | zero =>
    intro x2_13
    exact JR.bot
  | succ n ih13 =>
    intro x2_13
    show JR p l e R s m args below meth c Q D S0 3 bc bs (FX10_least_13 this k49 (jit (FX10_least_13 this k49) (fun _ => jbot) n) x2_13) 13 [some (.ref this), none, some (.int x2_13)] []
    generalize jit (FX10_least_13 this k49) (fun _ => jbot) n = rec13 at ih13 ⊢
    unfold FX10_least_13
    refine jr_iload_n K dX10_least_13 rfl ?_
    refine jr_bipush K dX10_least_14 (v := (nI 20)) (by decide) ?_
    refine jr_icmp_gt K (tgt := 49) dX10_least_16 (by decide) ?_ ?_
    · exact jr_weak (hk49) ⟨rfl, trivial⟩
    · refine jr_aload_n K dX10_least_19 rfl ?_
      refine jr_getI K gf_X10_209 dX10_least_20 (fun v20 => ?_)
      refine jr_if_ne K (tgt := 49) dX10_least_23 (by decide) ?_ ?_
      · exact jr_weak (hk49) ⟨rfl, trivial⟩
      · refine jr_aload_n K dX10_least_26 rfl ?_
        refine jr_getI K gf_X10_156 dX10_least_27 (fun v27 => ?_)
        refine jr_if_ne K (tgt := 49) dX10_least_30 (by decide) ?_ ?_
        · exact jr_weak (hk49) ⟨rfl, trivial⟩
        · refine jr_aload_n K dX10_least_33 rfl ?_
          refine jr_iload_n K dX10_least_34 rfl ?_
          refine jr_callv0 (jrun_V (As := [.int x2_13]) (st := []) (ci := 10) K (metX10_walks K.hG this x2_13 _) mtX10_walks mvX10_walks q612 rfl rfl rfl (Nat.le_of_ble_eq_true rfl) (by decide) ⟨Nat.zero_le _, Nat.zero_le _⟩ dX10_least_35) ?_
          refine jr_aload_n K dX10_least_38 rfl ?_
          refine jr_iload_n K dX10_least_39 rfl ?_
          refine jr_put K pf_X10_249 dX10_least_40 rfl rfl ?_
          refine jr_iinc K (v := (x2_13 + (nI 1))) (L' := [some (.ref this), none, some (.int (x2_13 + (nI 1)))]) dX10_least_43 rfl rfl (by decide) rfl rfl ?_
          refine jr_goto K (tgt := 13) dX10_least_46 (by decide) ?_
          exact jr_weak (ih13 (x2_13 + (nI 1))) ⟨rfl, rfl, trivial⟩
theorem wX10_least (K : JK p l R s m args meth c D S0 A0 3 cX10_least "MoveNotes$Search" 99) (bc bs : Nat) (this : Nat) (p1 : Int32) (Qj : Int32 → JP) (hret : jRetI p l e R s m args below meth c Q D S0 3 cX10_least Qj) : JR p l e R s m args below meth c Q D S0 3 bc bs (JX10_least this p1 Qj) 0 [some (.ref this), some (.int p1), none] [] := by
  unfold JX10_least
  refine jr_aload_n K dX10_least_0 rfl ?_
  refine jr_iload_n K dX10_least_1 rfl ?_
  refine jr_iconst K dX10_least_2 (v := (nI 0)) (by decide) ?_
  refine jr_callv0 (jrun_V (As := [.int p1, .int (nI 0)]) (st := []) (ci := 10) K (metX10_begins K.hG this p1 (nI 0) _) mtX10_begins mvX10_begins q608 rfl rfl rfl (Nat.le_of_ble_eq_true rfl) (by decide) ⟨Nat.zero_le _, Nat.zero_le _⟩ dX10_least_3) ?_
  refine jr_aload_n K dX10_least_6 rfl ?_
  refine jr_iconst K dX10_least_7 (v := (nI 0)) (by decide) ?_
  refine jr_put K pf_X10_209 dX10_least_8 rfl rfl ?_
  refine jr_iconst K dX10_least_11 (v := (nI 0)) (by decide) ?_
  refine jr_istore_n K (L' := [some (.ref this), some (.int p1), some (.int (nI 0))]) dX10_least_12 (by decide) rfl rfl ?_
  refine jr_ex (fun n13 => ?_)
  refine jr_weak (wX10_least_13 K bc bs this _ ?_ n13 (nI 0)) ⟨rfl, rfl, trivial⟩
  · refine jr_aload_n K dX10_least_49 rfl ?_
    refine jr_getI K gf_X10_156 dX10_least_50 (fun v50 => ?_)
    refine jr_if_eq K (tgt := 61) dX10_least_53 (by decide) ?_ ?_
    · refine jr_aload_n K dX10_least_61 rfl ?_
      refine jr_getI K gf_X10_209 dX10_least_62 (fun v62 => ?_)
      refine jr_if_ne K (tgt := 72) dX10_least_65 (by decide) ?_ ?_
      · refine jr_aload_n K dX10_least_72 rfl ?_
        refine jr_getI K gf_X10_249 dX10_least_73 (fun v73 => ?_)
        exact hret _ _ _ _ _ dX10_least_76
      · refine jr_iconst K dX10_least_68 (v := (-1)) (by decide) ?_
        refine jr_goto K (tgt := 76) dX10_least_69 (by decide) ?_
        exact hret _ _ _ _ _ dX10_least_76
    · refine jr_bipush K dX10_least_56 (v := (-2)) (by decide) ?_
      refine jr_goto K (tgt := 76) dX10_least_58 (by decide) ?_
      exact hret _ _ _ _ _ dX10_least_76
theorem metX10_least (hG : jG l D S0 A0) (this : Nat) (p1 : Int32) (Qj : Int32 → JP) : Met l yX10_least (ws_ yX10_least cX10_least 3 (some .int)) (jrm 99 0 0) (va_Pc [.ref this, .int p1] (jB D S0 (JX10_least this p1 Qj))) (va_Qi Qj (fun σ t => jRep D S0.heap.size σ t.heap) (jA S0)) 0 0 (jA S0) :=
  jr_start hG (by decide) (Nat.le_of_ble_eq_true rfl) rfl fun p e s m below meth c K hr hn => wX10_least K _ _ this p1 Qj (fun _ _ _ _ _ d => jr_iret K hr rfl d)
theorem wX10_lets (K : JK p l R s m args meth c D S0 A0 2 cX10_lets "MoveNotes$Search" 99) (bc bs : Nat) (this : Nat) (p1 : Int32) (Qj : Int32 → JP) (hret : jRetI p l e R s m args below meth c Q D S0 2 cX10_lets Qj) : JR p l e R s m args below meth c Q D S0 2 bc bs (JX10_lets this p1 Qj) 0 [some (.ref this), some (.int p1)] [] := by
  unfold JX10_lets
  refine jr_aload_n K dX10_lets_0 rfl ?_
  refine jr_iconst K dX10_lets_1 (v := (nI 1)) (by decide) ?_
  refine jr_iload_n K dX10_lets_2 rfl ?_
  refine jr_ishl K dX10_lets_3 ?_
  refine jr_iconst K dX10_lets_4 (v := (nI 1)) (by decide) ?_
  refine jr_callv0 (jrun_V (As := [.int (jshl (nI 1) p1), .int (nI 1)]) (st := []) (ci := 10) K (metX10_begins K.hG this (jshl (nI 1) p1) (nI 1) _) mtX10_begins mvX10_begins q608 rfl rfl rfl (Nat.le_of_ble_eq_true rfl) (by decide) ⟨Nat.zero_le _, Nat.zero_le _⟩ dX10_lets_5) ?_
  refine jr_aload_n K dX10_lets_8 rfl ?_
  refine jr_iconst K dX10_lets_9 (v := (nI 0)) (by decide) ?_
  refine jr_callv0 (jrun_V (As := [.int (nI 0)]) (st := []) (ci := 10) K (metX10_walks K.hG this (nI 0) _) mtX10_walks mvX10_walks q612 rfl rfl rfl (Nat.le_of_ble_eq_true rfl) (by decide) ⟨Nat.zero_le _, Nat.zero_le _⟩ dX10_lets_10) ?_
  refine jr_aload_n K dX10_lets_13 rfl ?_
  refine jr_getI K gf_X10_156 dX10_lets_14 (fun v14 => ?_)
  refine jr_if_eq K (tgt := 25) dX10_lets_17 (by decide) ?_ ?_
  · refine jr_aload_n K dX10_lets_25 rfl ?_
    refine jr_getI K gf_X10_162 dX10_lets_26 (fun v26 => ?_)
    exact hret _ _ _ _ _ dX10_lets_29
  · refine jr_bipush K dX10_lets_20 (v := (-2)) (by decide) ?_
    refine jr_goto K (tgt := 29) dX10_lets_22 (by decide) ?_
    exact hret _ _ _ _ _ dX10_lets_29
theorem metX10_lets (hG : jG l D S0 A0) (this : Nat) (p1 : Int32) (Qj : Int32 → JP) : Met l yX10_lets (ws_ yX10_lets cX10_lets 2 (some .int)) (jrm 99 0 0) (va_Pc [.ref this, .int p1] (jB D S0 (JX10_lets this p1 Qj))) (va_Qi Qj (fun σ t => jRep D S0.heap.size σ t.heap) (jA S0)) 0 0 (jA S0) :=
  jr_start hG (by decide) (Nat.le_of_ble_eq_true rfl) rfl fun p e s m below meth c K hr hn => wX10_lets K _ _ this p1 Qj (fun _ _ _ _ _ d => jr_iret K hr rfl d)
theorem wX10_weigh_29 (K : JK p l R s m args meth c D S0 A0 6 cX10_weigh "MoveNotes$Search" 99) (bc bs : Nat) (this : Nat) (p2 : Int32) (p4 : Int32) (k82 : JP) (hk82 : JR p l e R s m args below meth c Q D S0 6 bc bs k82 82 [some (.ref this), none, none, none, none, none] []) : ∀ (n : Nat) (x5_29 : Int32), JR p l e R s m args below meth c Q D S0 6 bc bs (jit (FX10_weigh_29 this p2 p4 k82) (fun _ => jbot) n x5_29) 29 [some (.ref this), none, some (.int p2), none, some (.int p4), some (.int x5_29)] [] := by
  intro n
  induction n with
  | zero =>
    intro x5_29
    exact JR.bot
  | succ n ih29 =>
    intro x5_29
    show JR p l e R s m args below meth c Q D S0 6 bc bs (FX10_weigh_29 this p2 p4 k82 (jit (FX10_weigh_29 this p2 p4 k82) (fun _ => jbot) n) x5_29) 29 [some (.ref this), none, some (.int p2), none, some (.int p4), some (.int x5_29)] []
    generalize jit (FX10_weigh_29 this p2 p4 k82) (fun _ => jbot) n = rec29 at ih29 ⊢
    unfold FX10_weigh_29
    refine jr_iload K dX10_weigh_29 rfl ?_
    refine jr_iload_n K dX10_weigh_31 rfl ?_
    refine jr_iload K dX10_weigh_32 rfl ?_
    refine jr_iadd K dX10_weigh_34 ?_
    refine jr_icmp_gt K (tgt := 82) dX10_weigh_35 (by decide) ?_ ?_
    · exact jr_weak (hk82) ⟨rfl, trivial⟩
    · refine jr_aload_n K dX10_weigh_38 rfl ?_
      refine jr_getI K gf_X10_156 dX10_weigh_39 (fun v39 => ?_)
      refine jr_if_ne K (tgt := 82) dX10_weigh_42 (by decide) ?_ ?_
      · exact jr_weak (hk82) ⟨rfl, trivial⟩
      · refine jr_aload_n K dX10_weigh_45 rfl ?_
        refine jr_iload K dX10_weigh_46 rfl ?_
        refine jr_iload_n K dX10_weigh_48 rfl ?_
        refine jr_join (fun (k67 : Int64 → JP) => ∀ (s1_67 : Int64), JR p l e R s m args below meth c Q D S0 6 bc bs (k67 s1_67) 67 [some (.ref this), none, some (.int p2), none, some (.int p4), some (.int x5_29)] [.long s1_67, .ref this]) ?_ (fun k67 hk67 => ?_)
        · intro s1_67
          refine jr_put K pf_X10_200 dX10_weigh_67 rfl rfl ?_
          refine jr_aload_n K dX10_weigh_70 rfl ?_
          refine jr_iload K dX10_weigh_71 rfl ?_
          refine jr_callv0 (jrun_V (As := [.int x5_29]) (st := []) (ci := 10) K (metX10_walks K.hG this x5_29 _) mtX10_walks mvX10_walks q612 rfl rfl rfl (Nat.le_of_ble_eq_true rfl) (by decide) ⟨Nat.zero_le _, Nat.zero_le _⟩ dX10_weigh_73) ?_
          refine jr_iinc K (v := (x5_29 + (nI 1))) (L' := [some (.ref this), none, some (.int p2), none, some (.int p4), some (.int (x5_29 + (nI 1)))]) dX10_weigh_76 rfl rfl (by decide) rfl rfl ?_
          refine jr_goto K (tgt := 29) dX10_weigh_79 (by decide) ?_
          exact jr_weak (ih29 (x5_29 + (nI 1))) ⟨rfl, rfl, rfl, rfl, trivial⟩
        refine jr_icmp_ge K (tgt := 56) dX10_weigh_49 (by decide) ?_ ?_
        · refine jr_lconst K dX10_weigh_56 (v := (lN 1)) rfl ?_
          refine jr_iconst K dX10_weigh_57 (v := (nI 2)) (by decide) ?_
          refine jr_iload_n K dX10_weigh_58 rfl ?_
          refine jr_iload K dX10_weigh_59 rfl ?_
          refine jr_iadd K dX10_weigh_61 ?_
          refine jr_iload K dX10_weigh_62 rfl ?_
          refine jr_isub K dX10_weigh_64 ?_
          refine jr_imul K dX10_weigh_65 ?_
          refine jr_lshl K dX10_weigh_66 ?_
          exact jr_weak (hk67 (jlshl (lN 1) ((nI 2) * ((p2 + p4) - x5_29)))) ⟨rfl, rfl, rfl, rfl, trivial⟩
        · refine jr_lconst K dX10_weigh_52 (v := (lN 0)) rfl ?_
          refine jr_goto K (tgt := 67) dX10_weigh_53 (by decide) ?_
          exact jr_weak (hk67 (lN 0)) ⟨rfl, rfl, rfl, rfl, trivial⟩
theorem wX10_weigh (K : JK p l R s m args meth c D S0 A0 6 cX10_weigh "MoveNotes$Search" 99) (bc bs : Nat) (this : Nat) (p1 : Int32) (p2 : Int32) (p3 : Int32) (p4 : Int32) (Qj : Int32 → JP) (hret : jRetZ p l e R s m args below meth c Q D S0 6 cX10_weigh Qj) : JR p l e R s m args below meth c Q D S0 6 bc bs (JX10_weigh this p1 p2 p3 p4 Qj) 0 [some (.ref this), some (.int p1), some (.int p2), some (.int p3), some (.int p4), none] [] := by
  unfold JX10_weigh
  refine jr_aload_n K dX10_weigh_0 rfl ?_
  refine jr_iload_n K dX10_weigh_1 rfl ?_
  refine jr_iconst K dX10_weigh_2 (v := (nI 0)) (by decide) ?_
  refine jr_callv0 (jrun_V (As := [.int p1, .int (nI 0)]) (st := []) (ci := 10) K (metX10_begins K.hG this p1 (nI 0) _) mtX10_begins mvX10_begins q608 rfl rfl rfl (Nat.le_of_ble_eq_true rfl) (by decide) ⟨Nat.zero_le _, Nat.zero_le _⟩ dX10_weigh_3) ?_
  refine jr_aload_n K dX10_weigh_6 rfl ?_
  refine jr_iconst K dX10_weigh_7 (v := (nI 1)) (by decide) ?_
  refine jr_putZ K pf_X10_193 dX10_weigh_8 ?_
  refine jr_aload_n K dX10_weigh_11 rfl ?_
  refine jr_iload_n K dX10_weigh_12 rfl ?_
  refine jr_put K pf_X10_206 dX10_weigh_13 rfl rfl ?_
  refine jr_aload_n K dX10_weigh_16 rfl ?_
  refine jr_lconst K dX10_weigh_17 (v := (lN 0)) rfl ?_
  refine jr_put K pf_X10_203 dX10_weigh_18 rfl rfl ?_
  refine jr_aload_n K dX10_weigh_21 rfl ?_
  refine jr_lconst K dX10_weigh_22 (v := (lN 0)) rfl ?_
  refine jr_put K pf_X10_196 dX10_weigh_23 rfl rfl ?_
  refine jr_iconst K dX10_weigh_26 (v := (nI 0)) (by decide) ?_
  refine jr_istore K (L' := [some (.ref this), some (.int p1), some (.int p2), some (.int p3), some (.int p4), some (.int (nI 0))]) dX10_weigh_27 (by decide) rfl rfl ?_
  refine jr_ex (fun n29 => ?_)
  refine jr_weak (wX10_weigh_29 K bc bs this p2 p4 _ ?_ n29 (nI 0)) ⟨rfl, rfl, rfl, rfl, trivial⟩
  · refine jr_aload_n K dX10_weigh_82 rfl ?_
    refine jr_iconst K dX10_weigh_83 (v := (nI 0)) (by decide) ?_
    refine jr_putZ K pf_X10_193 dX10_weigh_84 ?_
    refine jr_aload_n K dX10_weigh_87 rfl ?_
    refine jr_getI K gf_X10_156 dX10_weigh_88 (fun v88 => ?_)
    refine jr_if_ne K (tgt := 98) dX10_weigh_91 (by decide) ?_ ?_
    · refine jr_iconst K dX10_weigh_98 (v := (nI 0)) (by decide) ?_
      exact JR.imp (fun _ h => ⟨Or.inl rfl, h⟩) (hret _ _ _ _ _ dX10_weigh_99)
    · refine jr_iconst K dX10_weigh_94 (v := (nI 1)) (by decide) ?_
      refine jr_goto K (tgt := 99) dX10_weigh_95 (by decide) ?_
      exact JR.imp (fun _ h => ⟨Or.inr rfl, h⟩) (hret _ _ _ _ _ dX10_weigh_99)
theorem metX10_weigh (hG : jG l D S0 A0) (this : Nat) (p1 : Int32) (p2 : Int32) (p3 : Int32) (p4 : Int32) (Qj : Int32 → JP) : Met l yX10_weigh (ws_ yX10_weigh cX10_weigh 6 (some .boolean)) (jrm 99 0 0) (va_Pc [.ref this, .int p1, .int p2, .int p3, .int p4] (jB D S0 (JX10_weigh this p1 p2 p3 p4 Qj))) (va_Qi Qj (fun σ t => jRep D S0.heap.size σ t.heap) (jA S0)) 0 0 (jA S0) :=
  jr_start hG (by decide) (Nat.le_of_ble_eq_true rfl) rfl fun p e s m below meth c K hr hn => wX10_weigh K _ _ this p1 p2 p3 p4 Qj (fun _ _ _ _ _ d => jr_zret K hr d)
end JW
