set_option maxRecDepth 100000
theorem gf_X1_10 : jGet "MoveNotes" 10 1 0 := jg_own in_X1 rfl (by decide) q518 rfl
theorem gf_X1_107 : jGet "MoveNotes" 107 9 2 := jg_nest in_X9 rfl (by decide) q341 rfl
theorem gf_X1_112 : jGet "MoveNotes" 112 2 0 := jg_nest in_X2 rfl (by decide) q254 rfl
theorem gf_X1_116 : jGet "MoveNotes" 116 2 7 := jg_nest in_X2 rfl (by decide) q261 rfl
theorem gf_X1_133 : jGet "MoveNotes" 133 6 6 := jg_nest in_X6 rfl (by decide) q237 rfl
theorem gf_X1_142 : jGet "MoveNotes" 142 7 0 := jg_nest in_X7 rfl (by decide) q351 rfl
theorem gf_X1_150 : jGet "MoveNotes" 150 7 5 := jg_nest in_X7 rfl (by decide) q366 rfl
theorem gf_X1_153 : jGet "MoveNotes" 153 22 0 := jg_nest in_X22 rfl (by decide) q1148 rfl
theorem gf_X1_166 : jGet "MoveNotes" 166 7 1 := jg_nest in_X7 rfl (by decide) q354 rfl
theorem gf_X1_169 : jGet "MoveNotes" 169 8 0 := jg_nest in_X8 rfl (by decide) q308 rfl
theorem gf_X1_171 : jGet "MoveNotes" 171 8 1 := jg_nest in_X8 rfl (by decide) q315 rfl
theorem gf_X1_174 : jGet "MoveNotes" 174 1 16 := jg_own in_X1 rfl (by decide) q534 rfl
theorem gf_X1_182 : jGet "MoveNotes" 182 9 1 := jg_nest in_X9 rfl (by decide) q338 rfl
theorem gf_X1_19 : jGet "MoveNotes" 19 1 1 := jg_own in_X1 rfl (by decide) q519 rfl
theorem gf_X1_193 : jGet "MoveNotes" 193 9 0 := jg_nest in_X9 rfl (by decide) q335 rfl
theorem gf_X1_209 : jGet "MoveNotes" 209 23 0 := jg_nest in_X23 rfl (by decide) q1256 rfl
theorem gf_X1_211 : jGet "MoveNotes" 211 23 1 := jg_nest in_X23 rfl (by decide) q1258 rfl
theorem gf_X1_214 : jGet "MoveNotes" 214 23 2 := jg_nest in_X23 rfl (by decide) q1260 rfl
theorem gf_X1_217 : jGet "MoveNotes" 217 23 3 := jg_nest in_X23 rfl (by decide) q1262 rfl
theorem gf_X1_221 : jGet "MoveNotes" 221 1 15 := jg_own in_X1 rfl (by decide) q533 rfl
theorem gf_X1_23 : jGet "MoveNotes" 23 1 2 := jg_own in_X1 rfl (by decide) q520 rfl
theorem gf_X1_237 : jGet "MoveNotes" 237 7 4 := jg_nest in_X7 rfl (by decide) q363 rfl
theorem gf_X1_240 : jGet "MoveNotes" 240 7 9 := jg_nest in_X7 rfl (by decide) q377 rfl
theorem gf_X1_243 : jGet "MoveNotes" 243 7 8 := jg_nest in_X7 rfl (by decide) q374 rfl
theorem gf_X1_246 : jGet "MoveNotes" 246 7 3 := jg_nest in_X7 rfl (by decide) q360 rfl
theorem gf_X1_253 : jGet "MoveNotes" 253 1 14 := jg_own in_X1 rfl (by decide) q532 rfl
theorem gf_X1_269 : jGet "MoveNotes" 269 10 16 := jg_nest in_X10 rfl (by decide) q433 rfl
theorem gf_X1_272 : jGet "MoveNotes" 272 10 6 := jg_nest in_X10 rfl (by decide) q418 rfl
theorem gf_X1_286 : jGet "MoveNotes" 286 10 15 := jg_nest in_X10 rfl (by decide) q431 rfl
theorem gf_X1_287 : jGet "MoveNotes" 287 10 17 := jg_nest in_X10 rfl (by decide) q435 rfl
theorem gf_X1_290 : jGet "MoveNotes" 290 10 7 := jg_nest in_X10 rfl (by decide) q420 rfl
theorem gf_X1_296 : jGet "MoveNotes" 296 10 19 := jg_nest in_X10 rfl (by decide) q439 rfl
theorem gf_X1_299 : jGet "MoveNotes" 299 10 18 := jg_nest in_X10 rfl (by decide) q437 rfl
theorem gf_X1_302 : jGet "MoveNotes" 302 10 8 := jg_nest in_X10 rfl (by decide) q422 rfl
theorem gf_X1_31 : jGet "MoveNotes" 31 1 3 := jg_own in_X1 rfl (by decide) q521 rfl
theorem gf_X1_319 : jGet "MoveNotes" 319 10 23 := jg_nest in_X10 rfl (by decide) q444 rfl
theorem gf_X1_323 : jGet "MoveNotes" 323 10 24 := jg_nest in_X10 rfl (by decide) q446 rfl
theorem gf_X1_341 : jGet "MoveNotes" 341 1 17 := jg_own in_X1 rfl (by decide) q535 rfl
theorem gf_X1_347 : jGet "MoveNotes" 347 10 13 := jg_nest in_X10 rfl (by decide) q428 rfl
theorem gf_X1_35 : jGet "MoveNotes" 35 1 4 := jg_own in_X1 rfl (by decide) q522 rfl
theorem gf_X1_350 : jGet "MoveNotes" 350 12 0 := jg_nest in_X12 rfl (by decide) q1078 rfl
theorem gf_X1_40 : jGet "MoveNotes" 40 1 5 := jg_own in_X1 rfl (by decide) q523 rfl
theorem gf_X1_43 : jGet "MoveNotes" 43 1 6 := jg_own in_X1 rfl (by decide) q524 rfl
theorem gf_X1_46 : jGet "MoveNotes" 46 1 7 := jg_own in_X1 rfl (by decide) q525 rfl
theorem gf_X1_49 : jGet "MoveNotes" 49 1 8 := jg_own in_X1 rfl (by decide) q526 rfl
theorem gf_X1_52 : jGet "MoveNotes" 52 1 9 := jg_own in_X1 rfl (by decide) q527 rfl
theorem gf_X1_56 : jGet "MoveNotes" 56 1 10 := jg_own in_X1 rfl (by decide) q528 rfl
theorem gf_X1_59 : jGet "MoveNotes" 59 1 11 := jg_own in_X1 rfl (by decide) q529 rfl
theorem gf_X1_65 : jGet "MoveNotes" 65 1 12 := jg_own in_X1 rfl (by decide) q530 rfl
theorem gf_X1_69 : jGet "MoveNotes" 69 1 13 := jg_own in_X1 rfl (by decide) q531 rfl
theorem gf_X1_93 : jGet "MoveNotes" 93 7 6 := jg_nest in_X7 rfl (by decide) q368 rfl
theorem gf_X1_96 : jGet "MoveNotes" 96 7 7 := jg_nest in_X7 rfl (by decide) q371 rfl
theorem gf_X1_99 : jGet "MoveNotes" 99 7 2 := jg_nest in_X7 rfl (by decide) q357 rfl
theorem pf_X1_10 {mn : String} (h : mn = "<init>") : jPut "MoveNotes" mn 10 1 0 (.object "MoveNotes$Reader") := jp_fin in_X1 rfl (by decide) tyX1_ok nmX1 q518 rfl rfl rfl h rfl
theorem pf_X1_107 {mn : String} : jPut "MoveNotes" mn 107 9 2 .int := jp_nest in_X9 rfl (by decide) tyX9_ok nmX9 q341 rfl rfl rfl
theorem pf_X1_116 {mn : String} : jPut "MoveNotes" mn 116 2 7 .int := jp_nest in_X2 rfl (by decide) tyX2_ok nmX2 q261 rfl rfl rfl
theorem pf_X1_150 {mn : String} : jPut "MoveNotes" mn 150 7 5 (.object "MoveNotes$Measure") := jp_nest in_X7 rfl (by decide) tyX7_ok nmX7 q366 rfl rfl rfl
theorem pf_X1_174 {mn : String} : jPut "MoveNotes" mn 174 1 16 .boolean := jp_own in_X1 rfl (by decide) tyX1_ok nmX1 q534 rfl rfl rfl
theorem pf_X1_182 {mn : String} : jPut "MoveNotes" mn 182 9 1 .int := jp_nest in_X9 rfl (by decide) tyX9_ok nmX9 q338 rfl rfl rfl
theorem pf_X1_19 {mn : String} (h : mn = "<init>") : jPut "MoveNotes" mn 19 1 1 (.object "MoveNotes$State") := jp_fin in_X1 rfl (by decide) tyX1_ok nmX1 q519 rfl rfl rfl h rfl
theorem pf_X1_221 {mn : String} : jPut "MoveNotes" mn 221 1 15 .int := jp_own in_X1 rfl (by decide) tyX1_ok nmX1 q533 rfl rfl rfl
theorem pf_X1_23 {mn : String} (h : mn = "<init>") : jPut "MoveNotes" mn 23 1 2 (.object "MoveNotes$State") := jp_fin in_X1 rfl (by decide) tyX1_ok nmX1 q520 rfl rfl rfl h rfl
theorem pf_X1_240 {mn : String} : jPut "MoveNotes" mn 240 7 9 .int := jp_nest in_X7 rfl (by decide) tyX7_ok nmX7 q377 rfl rfl rfl
theorem pf_X1_243 {mn : String} : jPut "MoveNotes" mn 243 7 8 .int := jp_nest in_X7 rfl (by decide) tyX7_ok nmX7 q374 rfl rfl rfl
theorem pf_X1_253 {mn : String} : jPut "MoveNotes" mn 253 1 14 .int := jp_own in_X1 rfl (by decide) tyX1_ok nmX1 q532 rfl rfl rfl
theorem pf_X1_256 {mn : String} : jPut "MoveNotes" mn 256 10 29 .boolean := jp_nest in_X10 rfl (by decide) tyX10_ok nmX10 q452 rfl rfl rfl
theorem pf_X1_31 {mn : String} (h : mn = "<init>") : jPut "MoveNotes" mn 31 1 3 (.object "MoveNotes$Search") := jp_fin in_X1 rfl (by decide) tyX1_ok nmX1 q521 rfl rfl rfl h rfl
theorem pf_X1_341 {mn : String} : jPut "MoveNotes" mn 341 1 17 .boolean := jp_own in_X1 rfl (by decide) tyX1_ok nmX1 q535 rfl rfl rfl
theorem pf_X1_35 {mn : String} (h : mn = "<init>") : jPut "MoveNotes" mn 35 1 4 (.object "MoveNotes$Search") := jp_fin in_X1 rfl (by decide) tyX1_ok nmX1 q522 rfl rfl rfl h rfl
theorem pf_X1_40 {mn : String} (h : mn = "<init>") : jPut "MoveNotes" mn 40 1 5 (.array (.array .int)) := jp_fin in_X1 rfl (by decide) tyX1_ok nmX1 q523 rfl rfl rfl h rfl
theorem pf_X1_43 {mn : String} (h : mn = "<init>") : jPut "MoveNotes" mn 43 1 6 (.array (.array .int)) := jp_fin in_X1 rfl (by decide) tyX1_ok nmX1 q524 rfl rfl rfl h rfl
theorem pf_X1_46 {mn : String} (h : mn = "<init>") : jPut "MoveNotes" mn 46 1 7 (.array (.array .int)) := jp_fin in_X1 rfl (by decide) tyX1_ok nmX1 q525 rfl rfl rfl h rfl
theorem pf_X1_49 {mn : String} (h : mn = "<init>") : jPut "MoveNotes" mn 49 1 8 (.array (.array .int)) := jp_fin in_X1 rfl (by decide) tyX1_ok nmX1 q526 rfl rfl rfl h rfl
theorem pf_X1_52 {mn : String} (h : mn = "<init>") : jPut "MoveNotes" mn 52 1 9 (.array .int) := jp_fin in_X1 rfl (by decide) tyX1_ok nmX1 q527 rfl rfl rfl h rfl
theorem pf_X1_56 {mn : String} (h : mn = "<init>") : jPut "MoveNotes" mn 56 1 10 (.array .int) := jp_fin in_X1 rfl (by decide) tyX1_ok nmX1 q528 rfl rfl rfl h rfl
theorem pf_X1_59 {mn : String} (h : mn = "<init>") : jPut "MoveNotes" mn 59 1 11 (.array .int) := jp_fin in_X1 rfl (by decide) tyX1_ok nmX1 q529 rfl rfl rfl h rfl
theorem pf_X1_65 {mn : String} (h : mn = "<init>") : jPut "MoveNotes" mn 65 1 12 (.object "MoveNotes$Board") := jp_fin in_X1 rfl (by decide) tyX1_ok nmX1 q530 rfl rfl rfl h rfl
theorem pf_X1_69 {mn : String} : jPut "MoveNotes" mn 69 1 13 .int := jp_own in_X1 rfl (by decide) tyX1_ok nmX1 q531 rfl rfl rfl
theorem pf_X1_93 {mn : String} : jPut "MoveNotes" mn 93 7 6 .int := jp_nest in_X7 rfl (by decide) tyX7_ok nmX7 q368 rfl rfl rfl
theorem pf_X1_96 {mn : String} : jPut "MoveNotes" mn 96 7 7 .int := jp_nest in_X7 rfl (by decide) tyX7_ok nmX7 q371 rfl rfl rfl
theorem jxok_X1_0 : jxOK "MoveNotes" 73 75 0 ["java/lang/RuntimeException", "java/lang/Exception"] := ⟨q1086, q128, by decide, by decide, by decide, jxw (by decide +kernel), jxo (by decide +kernel)⟩
theorem jxok_X1_1 : jxOK "MoveNotes" 76 78 1 ["java/lang/RuntimeException", "java/lang/Exception"] := ⟨q1113, q129, by decide, by decide, by decide, jxw (by decide +kernel), jxo (by decide +kernel)⟩
theorem jxok_X1_2 : jxOK "MoveNotes" 79 81 2 ["java/lang/RuntimeException", "java/lang/Exception"] := ⟨q1197, q131, by decide, by decide, by decide, jxw (by decide +kernel), jxo (by decide +kernel)⟩
theorem jxok_X1_3 : jxOK "MoveNotes" 82 84 3 ["java/lang/RuntimeException", "java/lang/Exception"] := ⟨q1292, q135, by decide, by decide, by decide, jxw (by decide +kernel), jxo (by decide +kernel)⟩
theorem mtX1_init : jMt yX1_init cX1_init 1 none 0 := ⟨by decide +kernel, q99, q142, by decide⟩
theorem mtX1_four : jMt yX1_four cX1_four 3 none 1 := ⟨by decide +kernel, q99, q580, by decide⟩
theorem mvX1_four : jMv yX1_four := ⟨q579, qs1⟩
theorem mtX1_feed : jMt yX1_feed cX1_feed 6 (some .int) 5 := ⟨by decide +kernel, q99, q576, by decide⟩
theorem mvX1_feed : jMv yX1_feed := ⟨q574, q575⟩
theorem mtX1_isIn : jMt yX1_isIn cX1_isIn 3 (some .boolean) 3 := ⟨by decide +kernel, q99, q587, by decide⟩
theorem mtX1_end : jMt yX1_end cX1_end 2 (some .boolean) 1 := ⟨by decide +kernel, q99, q584, by decide⟩
theorem mvX1_end : jMv yX1_end := ⟨q582, q583⟩
theorem mtX1_use : jMt yX1_use cX1_use 2 (some .int) 0 := ⟨by decide +kernel, q99, q841, by decide⟩
theorem mvX1_use : jMv yX1_use := ⟨q840, qs16⟩
theorem mtX1_must : jMt yX1_must cX1_must 1 none 1 := ⟨by decide +kernel, q99, q1109, by decide⟩
theorem mtX1_mayBe : jMt yX1_mayBe cX1_mayBe 1 none 1 := ⟨by decide +kernel, q99, q1112, by decide⟩
theorem mtX1_kind : jMtW yX1_kind cX1_kind 5 (some .int) [(5, 15, 18, 131)] 1 := ⟨by decide +kernel, q99, q836, by decide⟩
theorem mvX1_kind : jMv yX1_kind := ⟨q834, q835⟩
theorem mtX0_kind : jMtW yX0_kind cX0_kind 4 (some .int) [(0, 9, 12, 13), (0, 9, 15, 15)] 3 := ⟨by decide +kernel, q98, q830, by decide⟩
theorem mtX1_measure : jMtW yX1_measure cX1_measure 3 (some .int) [(5, 20, 23, 131)] 0 := ⟨by decide +kernel, q99, q1134, by decide⟩
theorem mvX1_measure : jMv yX1_measure := ⟨q1132, q1133⟩
theorem mtX0_measure : jMtW yX0_measure cX0_measure 3 (some .int) [(0, 8, 11, 13)] 2 := ⟨by decide +kernel, q98, q1130, by decide⟩
theorem mtX1_fault : jMt yX1_fault cX1_fault 1 (some .int) 0 := ⟨by decide +kernel, q99, q591, by decide⟩
theorem mvX1_fault : jMv yX1_fault := ⟨q589, q590⟩
theorem mtX1_mustBe : jMt yX1_mustBe cX1_mustBe 1 none 1 := ⟨by decide +kernel, q99, q1196, by decide⟩
theorem mtX1_isSquare : jMt yX1_isSquare cX1_isSquare 1 none 1 := ⟨by decide +kernel, q99, q1193, by decide⟩
theorem mtX1_isKind : jMt yX1_isKind cX1_isKind 3 none 2 := ⟨by decide +kernel, q99, q1215, by decide⟩
theorem mvX1_isKind : jMv yX1_isKind := ⟨q1214, qs30⟩
theorem mtX1_put : jMt yX1_put cX1_put 4 none 3 := ⟨by decide +kernel, q99, q1190, by decide⟩
theorem mvX1_put : jMv yX1_put := ⟨q1188, q1189⟩
theorem mtX0_put : jMtW yX0_put cX0_put 5 (some .int) [(0, 7, 10, 25), (0, 7, 14, 13)] 4 := ⟨by decide +kernel, q98, q1154, by decide⟩
theorem mtX1_moves : jMt yX1_moves cX1_moves 4 (some .int) 2 := ⟨by decide +kernel, q99, q1222, by decide⟩
theorem mvX1_moves : jMv yX1_moves := ⟨q1220, q1221⟩
theorem mtX0_moves : jMtW yX0_moves cX0_moves 5 (some .int) [(0, 10, 13, 13)] 4 := ⟨by decide +kernel, q98, q1218, by decide⟩
theorem mtX1_newBook : jMt yX1_newBook cX1_newBook 3 (some .int) 1 := ⟨by decide +kernel, q99, q1234, by decide⟩
theorem mvX1_newBook : jMv yX1_newBook := ⟨q1233, qs31⟩
theorem mtX1_book : jMt yX1_book cX1_book 2 (some .int) 1 := ⟨by decide +kernel, q99, q1230, by decide⟩
theorem mvX1_book : jMv yX1_book := ⟨q1228, q1229⟩
theorem mtX0_book : jMtW yX0_book cX0_book 4 (some .int) [(0, 9, 12, 13), (0, 9, 15, 15)] 3 := ⟨by decide +kernel, q98, q1226, by decide⟩
theorem mtX1_bookAt : jMt yX1_bookAt cX1_bookAt 2 (some (.object "MoveNotes$Book")) 1 := ⟨by decide +kernel, q99, q1245, by decide⟩
theorem mvX1_bookAt : jMv yX1_bookAt := ⟨q1244, qs32⟩
theorem mtX1_isNoted : jMt yX1_isNoted cX1_isNoted 3 none 3 := ⟨by decide +kernel, q99, q1248, by decide⟩
theorem mtX1_note : jMt yX1_note cX1_note 7 (some .int) 5 := ⟨by decide +kernel, q99, q1241, by decide⟩
theorem mvX1_note : jMv yX1_note := ⟨q1239, q1240⟩
theorem mtX0_note : jMtW yX0_note cX0_note 8 (some .int) [(0, 16, 19, 25), (0, 16, 23, 13), (0, 16, 27, 15)] 7 := ⟨by decide +kernel, q98, q1237, by decide⟩
theorem mtX1_isNote : jMt yX1_isNote cX1_isNote 3 none 2 := ⟨by decide +kernel, q99, q1282, by decide⟩
theorem mvX1_isNote : jMv yX1_isNote := ⟨q1281, qs33⟩
theorem mtX1_change : jMt yX1_change cX1_change 9 (some .boolean) 6 := ⟨by decide +kernel, q99, q1278, by decide⟩
theorem mvX1_change : jMv yX1_change := ⟨q1276, q1277⟩
theorem mtX0_change : jMtW yX0_change cX0_change 9 (some .int) [(0, 25, 28, 25), (0, 25, 32, 13)] 8 := ⟨by decide +kernel, q98, q1274, by decide⟩
theorem mtX1_look : jMt yX1_look cX1_look 5 (some .int) 3 := ⟨by decide +kernel, q99, q1291, by decide⟩
theorem mvX1_look : jMv yX1_look := ⟨q1289, q1290⟩
theorem mtX0_look : jMtW yX0_look cX0_look 6 (some .int) [(0, 12, 15, 25), (0, 12, 19, 46)] 5 := ⟨by decide +kernel, q98, q1286, by decide⟩
theorem mtX1_draw : jMt yX1_draw cX1_draw 1 (some .int) 0 := ⟨by decide +kernel, q99, q1317, by decide⟩
theorem mvX1_draw : jMv yX1_draw := ⟨q1316, qs34⟩
theorem mtX1_write : jMt yX1_write cX1_write 15 (some .int) 4 := ⟨by decide +kernel, q99, q1313, by decide⟩
theorem mvX1_write : jMv yX1_write := ⟨q1311, q1312⟩
theorem mtX0_write : jMtW yX0_write cX0_write 7 (some .int) [(0, 14, 17, 13), (0, 14, 21, 15)] 6 := ⟨by decide +kernel, q98, q1309, by decide⟩
theorem mtX1_isSlip : jMt yX1_isSlip cX1_isSlip 1 none 1 := ⟨by decide +kernel, q99, q1328, by decide⟩
theorem mtX1_price : jMt yX1_price cX1_price 4 (some .int) 2 := ⟨by decide +kernel, q99, q1325, by decide⟩
theorem mvX1_price : jMv yX1_price := ⟨q1323, q1324⟩
theorem mtX0_price : jMtW yX0_price cX0_price 5 (some .int) [(0, 10, 13, 25), (0, 10, 17, 13)] 4 := ⟨by decide +kernel, q98, q1321, by decide⟩
theorem mtX1_length : jMt yX1_length cX1_length 2 none 1 := ⟨by decide +kernel, q99, q1335, by decide⟩
theorem mvX1_length : jMv yX1_length := ⟨q1333, q1334⟩
theorem mtX0_length : jMtW yX0_length cX0_length 3 (some .int) [(0, 5, 8, 13)] 2 := ⟨by decide +kernel, q98, q1331, by decide⟩
theorem mtX1_picture : jMt yX1_picture cX1_picture 5 (some .int) 4 := ⟨by decide +kernel, q99, q1342, by decide⟩
theorem mvX1_picture : jMv yX1_picture := ⟨q1340, q1341⟩
theorem mtX0_picture : jMtW yX0_picture cX0_picture 7 (some .int) [(0, 14, 17, 25), (0, 14, 21, 13), (0, 14, 25, 15)] 6 := ⟨by decide +kernel, q98, q1338, by decide⟩
theorem mtX1_allBooks : jMt yX1_allBooks cX1_allBooks 1 (some .int) 0 := ⟨by decide +kernel, q99, q603, by decide⟩
theorem mvX1_allBooks : jMv yX1_allBooks := ⟨q602, qs3⟩
theorem mtX1_lays : jMt yX1_lays cX1_lays 6 none 1 := ⟨by decide +kernel, q99, q790, by decide⟩
theorem mvX1_lays : jMv yX1_lays := ⟨q789, qs15⟩
theorem mtX1_reads : jMt yX1_reads cX1_reads 2 (some .int) 0 := ⟨by decide +kernel, q99, q599, by decide⟩
theorem mvX1_reads : jMv yX1_reads := ⟨q598, qs2⟩
theorem mtX1_least : jMt yX1_least cX1_least 1 (some .int) 0 := ⟨by decide +kernel, q99, q595, by decide⟩
theorem mvX1_least : jMv yX1_least := ⟨q593, q594⟩
theorem mtX1_many : jMt yX1_many cX1_many 1 (some .int) 0 := ⟨by decide +kernel, q99, q799, by decide⟩
theorem mvX1_many : jMv yX1_many := ⟨q797, q798⟩
theorem mtX1_read : jMt yX1_read cX1_read 2 (some .int) 1 := ⟨by decide +kernel, q99, q1369, by decide⟩
theorem mvX1_read : jMv yX1_read := ⟨q1367, q1368⟩
theorem mtX0_read : jMtW yX0_read cX0_read 4 (some .int) [(0, 9, 12, 13)] 3 := ⟨by decide +kernel, q98, q1365, by decide⟩
theorem mtX1_readNext : jMt yX1_readNext cX1_readNext 2 (some .int) 1 := ⟨by decide +kernel, q99, q1376, by decide⟩
theorem mvX1_readNext : jMv yX1_readNext := ⟨q1374, q1375⟩
theorem mtX0_readNext : jMtW yX0_readNext cX0_readNext 4 (some .int) [(0, 9, 12, 13)] 3 := ⟨by decide +kernel, q98, q1372, by decide⟩
theorem mtX1_slip : jMt yX1_slip cX1_slip 3 (some .int) 2 := ⟨by decide +kernel, q99, q1383, by decide⟩
theorem mvX1_slip : jMv yX1_slip := ⟨q1381, q1382⟩
theorem mtX0_slip : jMtW yX0_slip cX0_slip 5 (some .int) [(0, 10, 13, 25)] 4 := ⟨by decide +kernel, q98, q1379, by decide⟩
theorem mtX1_slips : jMt yX1_slips cX1_slips 6 (some .int) 2 := ⟨by decide +kernel, q99, q1390, by decide⟩
theorem mvX1_slips : jMv yX1_slips := ⟨q1388, q1389⟩
theorem mtX0_slips : jMtW yX0_slips cX0_slips 5 (some .int) [(0, 10, 13, 25)] 4 := ⟨by decide +kernel, q98, q1386, by decide⟩
theorem mtX1_breaks : jMt yX1_breaks cX1_breaks 4 (some .int) 1 := ⟨by decide +kernel, q99, q1397, by decide⟩
theorem mvX1_breaks : jMv yX1_breaks := ⟨q1395, q1396⟩
theorem mtX0_breaks : jMtW yX0_breaks cX0_breaks 4 (some .int) [(0, 9, 12, 25)] 3 := ⟨by decide +kernel, q98, q1393, by decide⟩
theorem mtX1_brief : jMt yX1_brief cX1_brief 6 (some .int) 1 := ⟨by decide +kernel, q99, q1408, by decide⟩
theorem mvX1_brief : jMv yX1_brief := ⟨q1406, q1407⟩
theorem mtX0_brief : jMtW yX0_brief cX0_brief 4 (some .int) [(0, 9, 12, 13)] 3 := ⟨by decide +kernel, q98, q1404, by decide⟩
theorem mtX1_part : jMt yX1_part cX1_part 2 (some .int) 0 := ⟨by decide +kernel, q99, q803, by decide⟩
theorem mvX1_part : jMv yX1_part := ⟨q801, q802⟩
theorem mtX1_best : jMt yX1_best cX1_best 3 (some .int) 1 := ⟨by decide +kernel, q99, q1415, by decide⟩
theorem mvX1_best : jMv yX1_best := ⟨q1413, q1414⟩
theorem mtX0_best : jMtW yX0_best cX0_best 4 (some .int) [(0, 9, 12, 13)] 3 := ⟨by decide +kernel, q98, q1411, by decide⟩
theorem mtX1_common : jMt yX1_common cX1_common 10 (some .long) 2 := ⟨by decide +kernel, q99, q1432, by decide⟩
theorem mtX1_odds : jMt yX1_odds cX1_odds 6 (some .long) 3 := ⟨by decide +kernel, q99, q1422, by decide⟩
theorem mvX1_odds : jMv yX1_odds := ⟨q1420, q1421⟩
theorem mtX0_odds : jMtW yX0_odds cX0_odds 6 (some .int) [(0, 11, 14, 13)] 5 := ⟨by decide +kernel, q98, q1418, by decide⟩
theorem mtX1_shared : jMt yX1_shared cX1_shared 13 (some .int) 3 := ⟨by decide +kernel, q99, q1439, by decide⟩
theorem mvX1_shared : jMv yX1_shared := ⟨q1437, q1438⟩
theorem mtX0_shared : jMtW yX0_shared cX0_shared 6 (some .int) [(0, 12, 15, 25)] 5 := ⟨by decide +kernel, q98, q1435, by decide⟩
theorem mtX1_alike : jMt yX1_alike cX1_alike 7 (some .int) 2 := ⟨by decide +kernel, q99, q1447, by decide⟩
theorem mvX1_alike : jMv yX1_alike := ⟨q1445, q1446⟩
theorem mtX0_alike : jMtW yX0_alike cX0_alike 5 (some .int) [(0, 10, 13, 25)] 4 := ⟨by decide +kernel, q98, q1443, by decide⟩
theorem mtX1_way : jMt yX1_way cX1_way 6 (some .int) 1 := ⟨by decide +kernel, q99, q1455, by decide⟩
theorem mvX1_way : jMv yX1_way := ⟨q1453, q1454⟩
theorem mtX0_way : jMtW yX0_way cX0_way 4 (some .int) [(0, 9, 12, 25)] 3 := ⟨by decide +kernel, q98, q1451, by decide⟩
theorem mtX1_cheaper : jMt yX1_cheaper cX1_cheaper 4 (some .int) 1 := ⟨by decide +kernel, q99, q1462, by decide⟩
theorem mvX1_cheaper : jMv yX1_cheaper := ⟨q1460, q1461⟩
theorem mtX0_cheaper : jMtW yX0_cheaper cX0_cheaper 4 (some .int) [(0, 9, 12, 25)] 3 := ⟨by decide +kernel, q98, q1458, by decide⟩
theorem mtX1_image : jMt yX1_image cX1_image 1 none 0 := ⟨by decide +kernel, q99, q807, by decide⟩
theorem mvX1_image : jMv yX1_image := ⟨q805, q806⟩
theorem mtX1_back : jMt yX1_back cX1_back 1 (some .boolean) 0 := ⟨by decide +kernel, q99, q822, by decide⟩
theorem mvX1_back : jMv yX1_back := ⟨q820, q821⟩
theorem mtX1_count : jMt yX1_count cX1_count 4 (some .int) 1 := ⟨by decide +kernel, q99, q826, by decide⟩
theorem mvX1_count : jMv yX1_count := ⟨q824, q825⟩
section JW
variable {p : Program} {l : Launch} {e : Env} {R : Room} {s : State} {m : MethodId} {args : Array Value} {below : List Frame} {meth : Method} {c : Code} {Q : State → Prop} {D : jE} {S0 : State} {A0 : Array Value}
theorem wX1_init (K : JK p l R s m args meth c D S0 A0 1 cX1_init "MoveNotes" 17) (hn : meth.name = "<init>") (sK : Nat → Nat) (bc : Nat) (bs : Nat) (this : Nat) (Qj : JP) (hS : jSt S0 sK) (hret : jRetV p l e R s m args below meth c Q D S0 1 cX1_init Qj) : JR p l e R s m args below meth c Q D S0 1 bc bs (JX1_init sK bc bs this Qj) 0 [some (.ref this)] [] := by
  unfold JX1_init
  refine jr_aload_n K dX1_init_0 rfl ?_
  refine jr_objInit K q143 dX1_init_1 (by decide) (Nat.le_of_ble_eq_true rfl) ?_
  refine jr_aload_n K dX1_init_4 rfl ?_
  refine jr_new K in_X2 rfl tyX2_ok dfo2 q146 q147 q100 dX1_init_5 (fun v5 => ?_)
  refine jr_dup K dX1_init_8 rfl ?_
  refine jr_bud (fun mc9 ms9 hmc9 hms9 => ?_)
  refine jr_callv ⟨hmc9, hms9⟩ (jrun_IN (As := []) (st := [.ref v5, .ref this]) K (metX2_init K.hG hS mc9 ms9 v5 _) mtX2_init q149 rfl q148 rfl rfl (Nat.le_of_ble_eq_true rfl) (by decide) ⟨hmc9, hms9⟩ dX1_init_9) ?_
  refine jr_put K (pf_X1_10 hn) dX1_init_12 rfl rfl ?_
  refine jr_aload_n K dX1_init_15 rfl ?_
  refine jr_new K in_X7 rfl tyX7_ok dfo7 q288 q289 q108 dX1_init_16 (fun v16 => ?_)
  refine jr_dup K dX1_init_19 rfl ?_
  refine jr_bud (fun mc20 ms20 hmc20 hms20 => ?_)
  refine jr_callv ⟨hmc20, hms20⟩ (jrun_I (As := []) (st := [.ref v16, .ref this]) K (metX7_init K.hG mc20 ms20 v16 _) mtX7_init q291 rfl q290 rfl rfl (Nat.le_of_ble_eq_true rfl) (by decide) ⟨hmc20, hms20⟩ dX1_init_20) ?_
  refine jr_put K (pf_X1_19 hn) dX1_init_23 rfl rfl ?_
  refine jr_aload_n K dX1_init_26 rfl ?_
  refine jr_new K in_X7 rfl tyX7_ok dfo7 q288 q289 q108 dX1_init_27 (fun v27 => ?_)
  refine jr_dup K dX1_init_30 rfl ?_
  refine jr_bud (fun mc31 ms31 hmc31 hms31 => ?_)
  refine jr_callv ⟨hmc31, hms31⟩ (jrun_I (As := []) (st := [.ref v27, .ref this]) K (metX7_init K.hG mc31 ms31 v27 _) mtX7_init q291 rfl q290 rfl rfl (Nat.le_of_ble_eq_true rfl) (by decide) ⟨hmc31, hms31⟩ dX1_init_31) ?_
  refine jr_put K (pf_X1_23 hn) dX1_init_34 rfl rfl ?_
  refine jr_aload_n K dX1_init_37 rfl ?_
  refine jr_new K in_X10 rfl tyX10_ok dfo10 q399 q400 q111 dX1_init_38 (fun v38 => ?_)
  refine jr_dup K dX1_init_41 rfl ?_
  refine jr_aload_n K dX1_init_42 rfl ?_
  refine jr_getA K gf_X1_19 dX1_init_43 (fun v43 => ?_)
  refine jr_bud (fun mc46 ms46 hmc46 hms46 => ?_)
  refine jr_callv ⟨hmc46, hms46⟩ (jrun_I (As := [.ref v43]) (st := [.ref v38, .ref this]) K (metX10_init K.hG mc46 ms46 v38 v43 _) mtX10_init q402 rfl q401 rfl rfl (Nat.le_of_ble_eq_true rfl) (by decide) ⟨hmc46, hms46⟩ dX1_init_46) ?_
  refine jr_put K (pf_X1_31 hn) dX1_init_49 rfl rfl ?_
  refine jr_aload_n K dX1_init_52 rfl ?_
  refine jr_new K in_X10 rfl tyX10_ok dfo10 q399 q400 q111 dX1_init_53 (fun v53 => ?_)
  refine jr_dup K dX1_init_56 rfl ?_
  refine jr_aload_n K dX1_init_57 rfl ?_
  refine jr_getA K gf_X1_19 dX1_init_58 (fun v58 => ?_)
  refine jr_bud (fun mc61 ms61 hmc61 hms61 => ?_)
  refine jr_callv ⟨hmc61, hms61⟩ (jrun_I (As := [.ref v58]) (st := [.ref v53, .ref this]) K (metX10_init K.hG mc61 ms61 v53 v58 _) mtX10_init q402 rfl q401 rfl rfl (Nat.le_of_ble_eq_true rfl) (by decide) ⟨hmc61, hms61⟩ dX1_init_61) ?_
  refine jr_put K (pf_X1_35 hn) dX1_init_64 rfl rfl ?_
  refine jr_aload_n K dX1_init_67 rfl ?_
  refine jr_iconst K dX1_init_68 (v := (nI 3)) (by decide) ?_
  refine jr_bipush K dX1_init_69 (v := (nI 24)) (by decide) ?_
  refine jr_newM2 K q515 (by decide) dX1_init_71 (fun v71 => ?_)
  refine jr_put K (pf_X1_40 hn) dX1_init_75 rfl rfl ?_
  refine jr_aload_n K dX1_init_78 rfl ?_
  refine jr_iconst K dX1_init_79 (v := (nI 3)) (by decide) ?_
  refine jr_bipush K dX1_init_80 (v := (nI 30)) (by decide) ?_
  refine jr_newM2 K q515 (by decide) dX1_init_82 (fun v82 => ?_)
  refine jr_put K (pf_X1_43 hn) dX1_init_86 rfl rfl ?_
  refine jr_aload_n K dX1_init_89 rfl ?_
  refine jr_bipush K dX1_init_90 (v := (nI 31)) (by decide) ?_
  refine jr_bipush K dX1_init_92 (v := (nI 25)) (by decide) ?_
  refine jr_newM2 K q515 (by decide) dX1_init_94 (fun v94 => ?_)
  refine jr_put K (pf_X1_46 hn) dX1_init_98 rfl rfl ?_
  refine jr_aload_n K dX1_init_101 rfl ?_
  refine jr_bipush K dX1_init_102 (v := (nI 25)) (by decide) ?_
  refine jr_bipush K dX1_init_104 (v := (nI 25)) (by decide) ?_
  refine jr_newM2 K q515 (by decide) dX1_init_106 (fun v106 => ?_)
  refine jr_put K (pf_X1_49 hn) dX1_init_110 rfl rfl ?_
  refine jr_aload_n K dX1_init_113 rfl ?_
  refine jr_iconst K dX1_init_114 (v := (nI 3)) (by decide) ?_
  refine jr_newI K dX1_init_115 (fun v115 => ?_)
  refine jr_put K (pf_X1_52 hn) dX1_init_117 rfl rfl ?_
  refine jr_aload_n K dX1_init_120 rfl ?_
  refine jr_bipush K dX1_init_121 (v := (nI 30)) (by decide) ?_
  refine jr_newI K dX1_init_123 (fun v123 => ?_)
  refine jr_put K (pf_X1_56 hn) dX1_init_125 rfl rfl ?_
  refine jr_aload_n K dX1_init_128 rfl ?_
  refine jr_sipush K dX1_init_129 (v := (nI 1296)) (by decide) ?_
  refine jr_newI K dX1_init_132 (fun v132 => ?_)
  refine jr_put K (pf_X1_59 hn) dX1_init_134 rfl rfl ?_
  refine jr_aload_n K dX1_init_137 rfl ?_
  refine jr_new K in_X8 rfl tyX8_ok dfo8 q516 q297 q109 dX1_init_138 (fun v138 => ?_)
  refine jr_dup K dX1_init_141 rfl ?_
  refine jr_bud (fun mc142 ms142 hmc142 hms142 => ?_)
  refine jr_callv ⟨hmc142, hms142⟩ (jrun_I (As := []) (st := [.ref v138, .ref this]) K (metX8_init K.hG mc142 ms142 v138 _) mtX8_init q299 rfl q517 rfl rfl (Nat.le_of_ble_eq_true rfl) (by decide) ⟨hmc142, hms142⟩ dX1_init_142) ?_
  refine jr_put K (pf_X1_65 hn) dX1_init_145 rfl rfl ?_
  refine jr_aload_n K dX1_init_148 rfl ?_
  refine jr_iconst K dX1_init_149 (v := (-1)) (by decide) ?_
  refine jr_put K pf_X1_69 dX1_init_150 rfl rfl ?_
  exact hret _ _ _ _ dX1_init_153
theorem metX1_init (hG : jG l D S0 A0) {sK : Nat → Nat} (hS : jSt S0 sK) (bc : Nat) (bs : Nat) (this : Nat) (Qj : JP) : Met l yX1_init (ws_ yX1_init cX1_init 1 none) (jrm 17 bc bs) (va_Pc [.ref this] (jB D S0 (JX1_init sK bc bs this Qj))) (va_Qv Qj (fun σ t => jRep D S0.heap.size σ t.heap) (jA S0)) bc bs (jA S0) :=
  jr_start hG (by decide) (Nat.le_of_ble_eq_true rfl) rfl fun p e s m below meth c K hr hn => wX1_init K hn sK bc bs this Qj hS (fun _ _ _ _ d => jr_vret K hr d)
theorem wX1_four_3 (K : JK p l R s m args meth c D S0 A0 3 cX1_four "MoveNotes" 12) (bc bs : Nat) (this : Nat) (p1 : Int32) (Qj : JP) (hret : jRetV p l e R s m args below meth c Q D S0 3 cX1_four Qj) : ∀ (n : Nat) (x2_3 : Int32), JR p l e R s m args below meth c Q D S0 3 bc bs (jit (FX1_four_3 this p1 Qj) (fun _ => jbot) n x2_3) 3 [some (.ref this), some (.int p1), some (.int x2_3)] [] := by
  intro n
  induction n with
  | zero =>
    intro x2_3
    exact JR.bot
  | succ n ih3 =>
    intro x2_3
    show JR p l e R s m args below meth c Q D S0 3 bc bs (FX1_four_3 this p1 Qj (jit (FX1_four_3 this p1 Qj) (fun _ => jbot) n) x2_3) 3 [some (.ref this), some (.int p1), some (.int x2_3)] []
    generalize jit (FX1_four_3 this p1 Qj) (fun _ => jbot) n = rec3 at ih3 ⊢
    unfold FX1_four_3
    refine jr_iload_n K dX1_four_3 rfl ?_
    refine jr_if_lt K (tgt := 45) dX1_four_4 (by decide) ?_ ?_
    · exact hret _ _ _ _ dX1_four_45
    · refine jr_aload_n K dX1_four_7 rfl ?_
      refine jr_getA K gf_X1_10 dX1_four_8 (fun v8 => ?_)
      refine jr_getA K gf_X1_112 dX1_four_11 (fun v11 => ?_)
      refine jr_aload_n K dX1_four_14 rfl ?_
      refine jr_getA K gf_X1_10 dX1_four_15 (fun v15 => ?_)
      refine jr_getI K gf_X1_116 dX1_four_18 (fun v18 => ?_)
      refine jr_iload_n K dX1_four_21 rfl ?_
      refine jr_iload_n K dX1_four_22 rfl ?_
      refine jr_ishr K dX1_four_23 ?_
      refine jr_i2b K dX1_four_24 ?_
      refine jr_bast K dX1_four_25 ?_
      refine jr_aload_n K dX1_four_26 rfl ?_
      refine jr_getA K gf_X1_10 dX1_four_27 (fun v27 => ?_)
      refine jr_dup K dX1_four_30 rfl ?_
      refine jr_getI K gf_X1_116 dX1_four_31 (fun v31 => ?_)
      refine jr_iconst K dX1_four_34 (v := (nI 1)) (by decide) ?_
      refine jr_iadd K dX1_four_35 ?_
      refine jr_put K pf_X1_116 dX1_four_36 rfl rfl ?_
      refine jr_iinc K (v := (x2_3 + (-8))) (L' := [some (.ref this), some (.int p1), some (.int (x2_3 + (-8)))]) dX1_four_39 rfl rfl (by decide) rfl rfl ?_
      refine jr_goto K (tgt := 3) dX1_four_42 (by decide) ?_
      exact jr_weak (ih3 (x2_3 + (-8))) ⟨rfl, rfl, rfl, trivial⟩
theorem wX1_four (K : JK p l R s m args meth c D S0 A0 3 cX1_four "MoveNotes" 12) (bc bs : Nat) (this : Nat) (p1 : Int32) (Qj : JP) (hret : jRetV p l e R s m args below meth c Q D S0 3 cX1_four Qj) : JR p l e R s m args below meth c Q D S0 3 bc bs (JX1_four this p1 Qj) 0 [some (.ref this), some (.int p1), none] [] := by
  unfold JX1_four
  refine jr_bipush K dX1_four_0 (v := (nI 24)) (by decide) ?_
  refine jr_istore_n K (L' := [some (.ref this), some (.int p1), some (.int (nI 24))]) dX1_four_2 (by decide) rfl rfl ?_
  refine jr_ex (fun n3 => ?_)
  refine jr_weak (wX1_four_3 K bc bs this p1 Qj hret n3 (nI 24)) ⟨rfl, rfl, rfl, trivial⟩
theorem metX1_four (hG : jG l D S0 A0) (this : Nat) (p1 : Int32) (Qj : JP) : Met l yX1_four (ws_ yX1_four cX1_four 3 none) (jrm 12 0 0) (va_Pc [.ref this, .int p1] (jB D S0 (JX1_four this p1 Qj))) (va_Qv Qj (fun σ t => jRep D S0.heap.size σ t.heap) (jA S0)) 0 0 (jA S0) :=
  jr_start hG (by decide) (Nat.le_of_ble_eq_true rfl) rfl fun p e s m below meth c K hr hn => wX1_four K _ _ this p1 Qj (fun _ _ _ _ d => jr_vret K hr d)
theorem wX1_feed (K : JK p l R s m args meth c D S0 A0 6 cX1_feed "MoveNotes" 13) (bc bs : Nat) (this : Nat) (p1 : Int32) (p2 : Int32) (p3 : Int32) (p4 : Int32) (p5 : Int32) (Qj : Int32 → JP) (hret : jRetI p l e R s m args below meth c Q D S0 6 cX1_feed Qj) : JR p l e R s m args below meth c Q D S0 6 bc bs (JX1_feed this p1 p2 p3 p4 p5 Qj) 0 [some (.ref this), some (.int p1), some (.int p2), some (.int p3), some (.int p4), some (.int p5)] [] := by
  unfold JX1_feed
  refine jr_aload_n K dX1_feed_0 rfl ?_
  refine jr_getA K gf_X1_10 dX1_feed_1 (fun v1 => ?_)
  refine jr_getI K gf_X1_116 dX1_feed_4 (fun v4 => ?_)
  refine jr_bipush K dX1_feed_7 (v := (nI 20)) (by decide) ?_
  refine jr_iadd K dX1_feed_9 ?_
  refine jr_sipush K dX1_feed_10 (v := (nI 400)) (by decide) ?_
  refine jr_icmp_le K (tgt := 18) dX1_feed_13 (by decide) ?_ ?_
  · refine jr_aload_n K dX1_feed_18 rfl ?_
    refine jr_iload_n K dX1_feed_19 rfl ?_
    refine jr_callv0 (jrun_V (As := [.int p1]) (st := []) (ci := 1) K (metX1_four K.hG this p1 _) mtX1_four mvX1_four q577 rfl rfl rfl (Nat.le_of_ble_eq_true rfl) (by decide) ⟨Nat.zero_le _, Nat.zero_le _⟩ dX1_feed_20) ?_
    refine jr_aload_n K dX1_feed_23 rfl ?_
    refine jr_iload_n K dX1_feed_24 rfl ?_
    refine jr_callv0 (jrun_V (As := [.int p2]) (st := []) (ci := 1) K (metX1_four K.hG this p2 _) mtX1_four mvX1_four q577 rfl rfl rfl (Nat.le_of_ble_eq_true rfl) (by decide) ⟨Nat.zero_le _, Nat.zero_le _⟩ dX1_feed_25) ?_
    refine jr_aload_n K dX1_feed_28 rfl ?_
    refine jr_iload_n K dX1_feed_29 rfl ?_
    refine jr_callv0 (jrun_V (As := [.int p3]) (st := []) (ci := 1) K (metX1_four K.hG this p3 _) mtX1_four mvX1_four q577 rfl rfl rfl (Nat.le_of_ble_eq_true rfl) (by decide) ⟨Nat.zero_le _, Nat.zero_le _⟩ dX1_feed_30) ?_
    refine jr_aload_n K dX1_feed_33 rfl ?_
    refine jr_iload K dX1_feed_34 rfl ?_
    refine jr_callv0 (jrun_V (As := [.int p4]) (st := []) (ci := 1) K (metX1_four K.hG this p4 _) mtX1_four mvX1_four q577 rfl rfl rfl (Nat.le_of_ble_eq_true rfl) (by decide) ⟨Nat.zero_le _, Nat.zero_le _⟩ dX1_feed_36) ?_
    refine jr_aload_n K dX1_feed_39 rfl ?_
    refine jr_iload K dX1_feed_40 rfl ?_
    refine jr_callv0 (jrun_V (As := [.int p5]) (st := []) (ci := 1) K (metX1_four K.hG this p5 _) mtX1_four mvX1_four q577 rfl rfl rfl (Nat.le_of_ble_eq_true rfl) (by decide) ⟨Nat.zero_le _, Nat.zero_le _⟩ dX1_feed_42) ?_
    refine jr_aload_n K dX1_feed_45 rfl ?_
    refine jr_getA K gf_X1_10 dX1_feed_46 (fun v46 => ?_)
    refine jr_getI K gf_X1_116 dX1_feed_49 (fun v49 => ?_)
    exact hret _ _ _ _ _ dX1_feed_52
  · refine jr_iconst K dX1_feed_16 (v := (-1)) (by decide) ?_
    exact hret _ _ _ _ _ dX1_feed_17
theorem metX1_feed (hG : jG l D S0 A0) (this : Nat) (p1 : Int32) (p2 : Int32) (p3 : Int32) (p4 : Int32) (p5 : Int32) (Qj : Int32 → JP) : Met l yX1_feed (ws_ yX1_feed cX1_feed 6 (some .int)) (jrm 13 0 0) (va_Pc [.ref this, .int p1, .int p2, .int p3, .int p4, .int p5] (jB D S0 (JX1_feed this p1 p2 p3 p4 p5 Qj))) (va_Qi Qj (fun σ t => jRep D S0.heap.size σ t.heap) (jA S0)) 0 0 (jA S0) :=
  jr_start hG (by decide) (Nat.le_of_ble_eq_true rfl) rfl fun p e s m below meth c K hr hn => wX1_feed K _ _ this p1 p2 p3 p4 p5 Qj (fun _ _ _ _ _ d => jr_iret K hr rfl d)
theorem wX1_isIn (K : JK p l R s m args meth c D S0 A0 3 cX1_isIn "MoveNotes" 12) (bc bs : Nat) (p0 : Int32) (p1 : Int32) (p2 : Int32) (Qj : Int32 → JP) (hret : jRetZ p l e R s m args below meth c Q D S0 3 cX1_isIn Qj) : JR p l e R s m args below meth c Q D S0 3 bc bs (JX1_isIn p0 p1 p2 Qj) 0 [some (.int p0), some (.int p1), some (.int p2)] [] := by
  unfold JX1_isIn
  refine jr_iload_n K dX1_isIn_0 rfl ?_
  refine jr_iload_n K dX1_isIn_1 rfl ?_
  refine jr_join (fun (k14 : JP) => JR p l e R s m args below meth c Q D S0 3 bc bs k14 14 [none, none, none] []) ?_ (fun k14 hk14 => ?_)
  · refine jr_iconst K dX1_isIn_14 (v := (nI 0)) (by decide) ?_
    exact JR.imp (fun _ h => ⟨Or.inl rfl, h⟩) (hret _ _ _ _ _ dX1_isIn_15)
  refine jr_icmp_lt K (tgt := 14) dX1_isIn_2 (by decide) ?_ ?_
  · exact jr_weak (hk14) trivial
  · refine jr_iload_n K dX1_isIn_5 rfl ?_
    refine jr_iload_n K dX1_isIn_6 rfl ?_
    refine jr_icmp_gt K (tgt := 14) dX1_isIn_7 (by decide) ?_ ?_
    · exact jr_weak (hk14) trivial
    · refine jr_iconst K dX1_isIn_10 (v := (nI 1)) (by decide) ?_
      refine jr_goto K (tgt := 15) dX1_isIn_11 (by decide) ?_
      exact JR.imp (fun _ h => ⟨Or.inr rfl, h⟩) (hret _ _ _ _ _ dX1_isIn_15)
theorem metX1_isIn (hG : jG l D S0 A0) (p0 : Int32) (p1 : Int32) (p2 : Int32) (Qj : Int32 → JP) : Met l yX1_isIn (ws_ yX1_isIn cX1_isIn 3 (some .boolean)) (jrm 12 0 0) (va_Pc [.int p0, .int p1, .int p2] (jB D S0 (JX1_isIn p0 p1 p2 Qj))) (va_Qi Qj (fun σ t => jRep D S0.heap.size σ t.heap) (jA S0)) 0 0 (jA S0) :=
  jr_start hG (by decide) (Nat.le_of_ble_eq_true rfl) rfl fun p e s m below meth c K hr hn => wX1_isIn K _ _ p0 p1 p2 Qj (fun _ _ _ _ _ d => jr_zret K hr d)
theorem wX1_end (K : JK p l R s m args meth c D S0 A0 2 cX1_end "MoveNotes" 13) (bc bs : Nat) (this : Nat) (p1 : Int32) (Qj : Int32 → JP) (hret : jRetZ p l e R s m args below meth c Q D S0 2 cX1_end Qj) : JR p l e R s m args below meth c Q D S0 2 bc bs (JX1_end this p1 Qj) 0 [some (.ref this), some (.int p1)] [] := by
  unfold JX1_end
  refine jr_iload_n K dX1_end_0 rfl ?_
  refine jr_iconst K dX1_end_1 (v := (nI 0)) (by decide) ?_
  refine jr_aload_n K dX1_end_2 rfl ?_
  refine jr_getA K gf_X1_10 dX1_end_3 (fun v3 => ?_)
  refine jr_getI K gf_X1_116 dX1_end_6 (fun v6 => ?_)
  refine jr_calli0 (jrun_S (As := [.int p1, .int (nI 0), .int v6]) (st := []) K (metX1_isIn K.hG p1 (nI 0) v6 _) mtX1_isIn q586 q585 rfl rfl (Nat.le_of_ble_eq_true rfl) (by decide) ⟨Nat.zero_le _, Nat.zero_le _⟩ dX1_end_9) (fun v9 => ?_)
  refine jr_if_ne K (tgt := 17) dX1_end_12 (by decide) ?_ ?_
  · refine jr_aload_n K dX1_end_17 rfl ?_
    refine jr_getA K gf_X1_10 dX1_end_18 (fun v18 => ?_)
    refine jr_iload_n K dX1_end_21 rfl ?_
    refine jr_put K pf_X1_116 dX1_end_22 rfl rfl ?_
    refine jr_iconst K dX1_end_25 (v := (nI 1)) (by decide) ?_
    exact JR.imp (fun _ h => ⟨Or.inr rfl, h⟩) (hret _ _ _ _ _ dX1_end_26)
  · refine jr_iconst K dX1_end_15 (v := (nI 0)) (by decide) ?_
    exact JR.imp (fun _ h => ⟨Or.inl rfl, h⟩) (hret _ _ _ _ _ dX1_end_16)
theorem metX1_end (hG : jG l D S0 A0) (this : Nat) (p1 : Int32) (Qj : Int32 → JP) : Met l yX1_end (ws_ yX1_end cX1_end 2 (some .boolean)) (jrm 13 0 0) (va_Pc [.ref this, .int p1] (jB D S0 (JX1_end this p1 Qj))) (va_Qi Qj (fun σ t => jRep D S0.heap.size σ t.heap) (jA S0)) 0 0 (jA S0) :=
  jr_start hG (by decide) (Nat.le_of_ble_eq_true rfl) rfl fun p e s m below meth c K hr hn => wX1_end K _ _ this p1 Qj (fun _ _ _ _ _ d => jr_zret K hr d)
theorem wX1_use (K : JK p l R s m args meth c D S0 A0 2 cX1_use "MoveNotes" 12) (bc bs : Nat) (this : Nat) (Qj : Int32 → JP) (hret : jRetI p l e R s m args below meth c Q D S0 2 cX1_use Qj) : JR p l e R s m args below meth c Q D S0 2 bc bs (JX1_use this Qj) 0 [some (.ref this), none] [] := by
  unfold JX1_use
  refine jr_aload_n K dX1_use_0 rfl ?_
  refine jr_getA K gf_X1_10 dX1_use_1 (fun v1 => ?_)
  refine jr_getI K gf_X1_116 dX1_use_4 (fun v4 => ?_)
  refine jr_istore_n K (L' := [some (.ref this), some (.int v4)]) dX1_use_7 (by decide) rfl rfl ?_
  refine jr_aload_n K dX1_use_8 rfl ?_
  refine jr_getA K gf_X1_10 dX1_use_9 (fun v9 => ?_)
  refine jr_iconst K dX1_use_12 (v := (nI 0)) (by decide) ?_
  refine jr_put K pf_X1_116 dX1_use_13 rfl rfl ?_
  refine jr_aload_n K dX1_use_16 rfl ?_
  refine jr_iconst K dX1_use_17 (v := (-1)) (by decide) ?_
  refine jr_put K pf_X1_69 dX1_use_18 rfl rfl ?_
  refine jr_iload_n K dX1_use_21 rfl ?_
  exact hret _ _ _ _ _ dX1_use_22
theorem metX1_use (hG : jG l D S0 A0) (this : Nat) (Qj : Int32 → JP) : Met l yX1_use (ws_ yX1_use cX1_use 2 (some .int)) (jrm 12 0 0) (va_Pc [.ref this] (jB D S0 (JX1_use this Qj))) (va_Qi Qj (fun σ t => jRep D S0.heap.size σ t.heap) (jA S0)) 0 0 (jA S0) :=
  jr_start hG (by decide) (Nat.le_of_ble_eq_true rfl) rfl fun p e s m below meth c K hr hn => wX1_use K _ _ this Qj (fun _ _ _ _ _ d => jr_iret K hr rfl d)
theorem wX1_must (K : JK p l R s m args meth c D S0 A0 1 cX1_must "MoveNotes" 12) (bc : Nat) (bs : Nat) (p0 : Int32) (Ex : Nat → Nat → JP) (Qj : JP) (hEx : jThr p l e R s m args below meth c Q D S0 1 cX1_must "MoveNotes" [] Ex) (hret : jRetV p l e R s m args below meth c Q D S0 1 cX1_must Qj) : JR p l e R s m args below meth c Q D S0 1 bc bs (JX1_must bc bs p0 Ex Qj) 0 [some (.int p0)] [] := by
  unfold JX1_must
  refine jr_iload_n K dX1_must_0 rfl ?_
  refine jr_if_ne K (tgt := 12) dX1_must_1 (by decide) ?_ ?_
  · exact hret _ _ _ _ dX1_must_12
  · exact jr_throw K hEx jxok_X1_0 (Nat.le_of_ble_eq_true rfl) (fun _ h => nomatch h) dX1_must_4 dX1_must_7 dX1_must_8 dX1_must_11
theorem metX1_must (hG : jG l D S0 A0) (bc : Nat) (bs : Nat) (p0 : Int32) (Ex : Nat → Nat → JP) (Qj : JP) : vx_Met l yX1_must (ws_ yX1_must cX1_must 1 none) (jrm 12 bc bs) (va_Pc [.int p0] (jB D S0 (JX1_must bc bs p0 Ex Qj))) (va_Qv Qj (fun σ t => jRep D S0.heap.size σ t.heap) (jA S0)) (jXC D S0 Ex) bc bs (jA S0) :=
  jx_start hG (by decide) (by decide) (Nat.le_of_ble_eq_true rfl) rfl fun p e s m below meth c K hr hEx => wX1_must K bc bs p0 Ex Qj hEx (fun _ _ _ _ d => jr_xret jx_mq (jr_vret K hr d))
theorem wX1_mayBe (K : JK p l R s m args meth c D S0 A0 1 cX1_mayBe "MoveNotes" 12) (bc : Nat) (bs : Nat) (p0 : Int32) (Ex : Nat → Nat → JP) (Qj : JP) (hEx : jThr p l e R s m args below meth c Q D S0 1 cX1_mayBe "MoveNotes" [] Ex) (hret : jRetV p l e R s m args below meth c Q D S0 1 cX1_mayBe Qj) : JR p l e R s m args below meth c Q D S0 1 bc bs (JX1_mayBe bc bs p0 Ex Qj) 0 [some (.int p0)] [] := by
  unfold JX1_mayBe
  refine jr_iload_n K dX1_mayBe_0 rfl ?_
  refine jr_if_ne K (tgt := 12) dX1_mayBe_1 (by decide) ?_ ?_
  · exact hret _ _ _ _ dX1_mayBe_12
  · exact jr_throw K hEx jxok_X1_1 (Nat.le_of_ble_eq_true rfl) (fun _ h => nomatch h) dX1_mayBe_4 dX1_mayBe_7 dX1_mayBe_8 dX1_mayBe_11
theorem metX1_mayBe (hG : jG l D S0 A0) (bc : Nat) (bs : Nat) (p0 : Int32) (Ex : Nat → Nat → JP) (Qj : JP) : vx_Met l yX1_mayBe (ws_ yX1_mayBe cX1_mayBe 1 none) (jrm 12 bc bs) (va_Pc [.int p0] (jB D S0 (JX1_mayBe bc bs p0 Ex Qj))) (va_Qv Qj (fun σ t => jRep D S0.heap.size σ t.heap) (jA S0)) (jXC D S0 Ex) bc bs (jA S0) :=
  jx_start hG (by decide) (by decide) (Nat.le_of_ble_eq_true rfl) rfl fun p e s m below meth c K hr hEx => wX1_mayBe K bc bs p0 Ex Qj hEx (fun _ _ _ _ d => jr_xret jx_mq (jr_vret K hr d))
theorem wX1_kind (K : JK p l R s m args meth c D S0 A0 5 cX1_kind "MoveNotes" 64) (htb : c.exceptionTable.toList = tableOf [(5, 15, 18, 131)]) (sK : Nat → Nat) (bc : Nat) (bs : Nat) (this : Nat) (p1 : Int32) (Ex : Nat → Nat → JP) (Qj : Int32 → JP) (hS : jSt S0 sK) (hEx : jThr p l e R s m args below meth c Q D S0 5 cX1_kind "MoveNotes" [(5, 15, 18, 131)] Ex) (hret : jRetI p l e R s m args below meth c Q D S0 5 cX1_kind Qj) : JR p l e R s m args below meth c Q D S0 5 bc bs (JX1_kind sK bc bs this p1 Ex Qj) 0 [some (.ref this), some (.int p1), none, none, none] [] := by
  unfold JX1_kind
  refine jr_aload_n K dX1_kind_0 rfl ?_
  refine jr_calli0 (jrun_V (As := []) (st := []) (ci := 1) K (metX1_use K.hG this _) mtX1_use mvX1_use q838 rfl rfl rfl (Nat.le_of_ble_eq_true rfl) (by decide) ⟨Nat.zero_le _, Nat.zero_le _⟩ dX1_kind_1) (fun v1 => ?_)
  refine jr_istore_n K (L' := [some (.ref this), some (.int p1), some (.int v1), none, none]) dX1_kind_4 (by decide) rfl rfl ?_
  refine jr_aload_n K dX1_kind_5 rfl ?_
  refine jr_getA K gf_X1_10 dX1_kind_6 (fun v6 => ?_)
  refine jr_iload_n K dX1_kind_9 rfl ?_
  refine jr_iload_n K dX1_kind_10 rfl ?_
  refine jr_bud (fun mc11 ms11 hmc11 hms11 => ?_)
  refine jrx_callr ⟨hmc11, hms11⟩ (jrunx_V (As := [.int v1, .int p1]) (st := []) (ci := 2) K (metX2_kind K.hG hS mc11 ms11 v6 v1 p1 _ _) mtX2_kind mvX2_kind q842 rfl rfl rfl (Nat.le_of_ble_eq_true rfl) (by decide) ⟨hmc11, hms11⟩ dX1_kind_11) (fun xx11 xq11 => ?_) (fun v11 => ?_)
  · refine jt_if (fun hx0 => ?_) (fun hx0 => ?_)
    · subst hx0
      refine jt_catch0 K htb rfl (by decide) (by decide) q837 q182 ?_
      refine jr_astore K (L' := [some (.ref this), some (.int p1), some (.int v1), none, some (.ref xq11)]) dX1_kind_18 (by decide) rfl rfl ?_
      refine jr_aload_n K dX1_kind_20 rfl ?_
      refine jr_aload K dX1_kind_21 rfl ?_
      refine jr_getI K gf_X1_133 dX1_kind_23 (fun v23 => ?_)
      refine jr_put K pf_X1_69 dX1_kind_26 rfl rfl ?_
      exact jr_throw K hEx jxok_X1_0 (Nat.le_of_ble_eq_true rfl) (by unfold jcov; decide) dX1_kind_29 dX1_kind_32 dX1_kind_33 dX1_kind_36
    exact JT.bot
  refine jr_astore_n K (L' := [some (.ref this), some (.int p1), some (.int v1), some (.ref v11), none]) dX1_kind_14 (by decide) rfl rfl ?_
  refine jr_goto K (tgt := 37) dX1_kind_15 (by decide) ?_
  refine jr_iload_n K dX1_kind_37 rfl ?_
  refine jr_iconst K dX1_kind_38 (v := (nI 0)) (by decide) ?_
  refine jr_bipush K dX1_kind_39 (v := (nI 20)) (by decide) ?_
  refine jr_calli0 (jrun_S (As := [.int p1, .int (nI 0), .int (nI 20)]) (st := []) K (metX1_isIn K.hG p1 (nI 0) (nI 20) _) mtX1_isIn q586 q585 rfl rfl (Nat.le_of_ble_eq_true rfl) (by decide) ⟨Nat.zero_le _, Nat.zero_le _⟩ dX1_kind_41) (fun v41 => ?_)
  refine jr_bud (fun mc44 ms44 hmc44 hms44 => ?_)
  refine jrx_callv ⟨hmc44, hms44⟩ (jrunx_S (As := [.int v41]) (st := []) K (metX1_must K.hG mc44 ms44 v41 Ex _) mtX1_must q1108 q1107 rfl rfl (Nat.le_of_ble_eq_true rfl) (by decide) ⟨hmc44, hms44⟩ dX1_kind_44) (fun x q => hEx.1 _ _ _ _ x q (by unfold jcov; decide)) ?_
  refine jr_aload_n K dX1_kind_47 rfl ?_
  refine jr_getA K gf_X1_19 dX1_kind_48 (fun v48 => ?_)
  refine jr_getI K gf_X1_93 dX1_kind_51 (fun v51 => ?_)
  refine jr_iconst K dX1_kind_54 (v := (nI 5)) (by decide) ?_
  refine jr_join (fun (k63 : Int32 → JP) => ∀ (s0_63 : Int32), JR p l e R s m args below meth c Q D S0 5 ((bc - mc11) - mc44) ((bs - ms11) - ms44) (k63 s0_63) 63 [some (.ref this), none, none, some (.ref v11), none] [.int s0_63]) ?_ (fun k63 hk63 => ?_)
  · intro s0_63
    refine jr_bud (fun mc63 ms63 hmc63 hms63 => ?_)
    refine jrx_callv ⟨hmc63, hms63⟩ (jrunx_S (As := [.int s0_63]) (st := []) K (metX1_mayBe K.hG mc63 ms63 s0_63 Ex _) mtX1_mayBe q1111 q1110 rfl rfl (Nat.le_of_ble_eq_true rfl) (by decide) ⟨hmc63, hms63⟩ dX1_kind_63) (fun x q => hEx.1 _ _ _ _ x q (by unfold jcov; decide)) ?_
    refine jr_aload_n K dX1_kind_66 rfl ?_
    refine jr_getA K gf_X1_19 dX1_kind_67 (fun v67 => ?_)
    refine jr_getA K gf_X1_142 dX1_kind_70 (fun v70 => ?_)
    refine jr_aload_n K dX1_kind_73 rfl ?_
    refine jr_getA K gf_X1_19 dX1_kind_74 (fun v74 => ?_)
    refine jr_getI K gf_X1_93 dX1_kind_77 (fun v77 => ?_)
    refine jr_aload_n K dX1_kind_80 rfl ?_
    refine jr_aast K (by decide) jfit_7_12 dX1_kind_81 ?_
    refine jr_aload_n K dX1_kind_82 rfl ?_
    refine jr_getA K gf_X1_19 dX1_kind_83 (fun v83 => ?_)
    refine jr_dup K dX1_kind_86 rfl ?_
    refine jr_getI K gf_X1_93 dX1_kind_87 (fun v87 => ?_)
    refine jr_iconst K dX1_kind_90 (v := (nI 1)) (by decide) ?_
    refine jr_iadd K dX1_kind_91 ?_
    refine jr_put K pf_X1_93 dX1_kind_92 rfl rfl ?_
    refine jr_aload_n K dX1_kind_95 rfl ?_
    refine jr_getA K gf_X1_19 dX1_kind_96 (fun v96 => ?_)
    refine jr_getI K gf_X1_93 dX1_kind_99 (fun v99 => ?_)
    refine jr_iconst K dX1_kind_102 (v := (nI 1)) (by decide) ?_
    refine jr_isub K dX1_kind_103 ?_
    exact hret _ _ _ _ _ dX1_kind_104
  refine jr_icmp_ge K (tgt := 62) dX1_kind_55 (by decide) ?_ ?_
  · refine jr_iconst K dX1_kind_62 (v := (nI 0)) (by decide) ?_
    exact jr_weak (hk63 (nI 0)) ⟨rfl, rfl, trivial⟩
  · refine jr_iconst K dX1_kind_58 (v := (nI 1)) (by decide) ?_
    refine jr_goto K (tgt := 63) dX1_kind_59 (by decide) ?_
    exact jr_weak (hk63 (nI 1)) ⟨rfl, rfl, trivial⟩
theorem metX1_kind (hG : jG l D S0 A0) {sK : Nat → Nat} (hS : jSt S0 sK) (bc : Nat) (bs : Nat) (this : Nat) (p1 : Int32) (Ex : Nat → Nat → JP) (Qj : Int32 → JP) : vx_Met l yX1_kind (wsW_ yX1_kind cX1_kind 5 (some .int) [(5, 15, 18, 131)]) (jrm 64 bc bs) (va_Pc [.ref this, .int p1] (jB D S0 (JX1_kind sK bc bs this p1 Ex Qj))) (va_Qi Qj (fun σ t => jRep D S0.heap.size σ t.heap) (jA S0)) (jXC D S0 Ex) bc bs (jA S0) :=
  jx_startW hG (by decide) (by decide) (Nat.le_of_ble_eq_true rfl) rfl fun p e s m below meth c K hr htb hEx => wX1_kind K htb sK bc bs this p1 Ex Qj hS hEx (fun _ _ _ _ _ d => jr_xret jx_mq (jr_iret K hr rfl d))
theorem wX0_kind (K : JK p l R s m args meth c D S0 A0 4 cX0_kind "MoveNotesLaw" 65) (htb : c.exceptionTable.toList = tableOf [(0, 9, 12, 13), (0, 9, 15, 15)]) (sK : Nat → Nat) (bc : Nat) (bs : Nat) (p0 : Nat) (p1 : Int32) (p2 : Nat) (Qj : Int32 → JP) (hS : jSt S0 sK) (hret : jRetI p l e R s m args below meth c Q D S0 4 cX0_kind Qj) : JR p l e R s m args below meth c Q D S0 4 bc bs (JX0_kind sK bc bs p0 p1 p2 Qj) 0 [some (.ref p0), some (.int p1), some (.ref p2), none] [] := by
  unfold JX0_kind
  refine jr_aload_n K dX0_kind_0 rfl ?_
  refine jr_iconst K dX0_kind_1 (v := (nI 0)) (by decide) ?_
  refine jr_aload_n K dX0_kind_2 rfl ?_
  refine jr_iload_n K dX0_kind_3 rfl ?_
  refine jr_bud (fun mc4 ms4 hmc4 hms4 => ?_)
  refine jrx_calli ⟨hmc4, hms4⟩ (jrunx_VW (As := [.int p1]) (st := [.int (nI 0), .ref p2]) (ci := 1) K (metX1_kind K.hG hS mc4 ms4 p0 p1 _ _) mtX1_kind mvX1_kind q833 rfl rfl rfl (Nat.le_of_ble_eq_true rfl) (by decide) ⟨hmc4, hms4⟩ dX0_kind_4) (fun xx4 xq4 => ?_) (fun v4 => ?_)
  · refine jt_if (fun hx0 => ?_) (fun hx0 => ?_)
    · subst hx0
      refine jt_catch0 K htb rfl (by decide) (by decide) q831 q1088 ?_
      refine jr_astore_n K (L' := [some (.ref p0), some (.int p1), some (.ref p2), some (.ref xq4)]) dX0_kind_12 (by decide) rfl rfl ?_
      refine jr_iconst K dX0_kind_13 (v := (nI 1)) (by decide) ?_
      exact hret _ _ _ _ _ dX0_kind_14
    refine jt_if (fun hx1 => ?_) (fun hx1 => ?_)
    · subst hx1
      refine jt_catch1 K htb rfl (by decide) (by decide) q831 (by decide) (jncast K (by decide +kernel)) q832 q1115 ?_
      refine jr_astore_n K (L' := [some (.ref p0), some (.int p1), some (.ref p2), some (.ref xq4)]) dX0_kind_15 (by decide) rfl rfl ?_
      refine jr_iconst K dX0_kind_16 (v := (nI 2)) (by decide) ?_
      exact hret _ _ _ _ _ dX0_kind_17
    exact JT.bot
  refine jr_i2l K dX0_kind_7 ?_
  refine jr_last K dX0_kind_8 ?_
  refine jr_goto K (tgt := 18) dX0_kind_9 (by decide) ?_
  refine jr_iconst K dX0_kind_18 (v := (nI 0)) (by decide) ?_
  exact hret _ _ _ _ _ dX0_kind_19
theorem metX0_kind (hG : jG l D S0 A0) {sK : Nat → Nat} (hS : jSt S0 sK) (bc : Nat) (bs : Nat) (p0 : Nat) (p1 : Int32) (p2 : Nat) (Qj : Int32 → JP) : Met l yX0_kind (wsW_ yX0_kind cX0_kind 4 (some .int) [(0, 9, 12, 13), (0, 9, 15, 15)]) (jrm 65 bc bs) (va_Pc [.ref p0, .int p1, .ref p2] (jB D S0 (JX0_kind sK bc bs p0 p1 p2 Qj))) (va_Qi Qj (fun σ t => jRep D S0.heap.size σ t.heap) (jA S0)) bc bs (jA S0) :=
  jr_startW hG (by decide) (Nat.le_of_ble_eq_true rfl) rfl fun p e s m below meth c K hr hn htb => wX0_kind K htb sK bc bs p0 p1 p2 Qj hS (fun _ _ _ _ _ d => jr_iret K hr rfl d)
theorem wX1_measure (K : JK p l R s m args meth c D S0 A0 3 cX1_measure "MoveNotes" 64) (htb : c.exceptionTable.toList = tableOf [(5, 20, 23, 131)]) (sK : Nat → Nat) (bc : Nat) (bs : Nat) (this : Nat) (Ex : Nat → Nat → JP) (Qj : Int32 → JP) (hS : jSt S0 sK) (hEx : jThr p l e R s m args below meth c Q D S0 3 cX1_measure "MoveNotes" [(5, 20, 23, 131)] Ex) (hret : jRetI p l e R s m args below meth c Q D S0 3 cX1_measure Qj) : JR p l e R s m args below meth c Q D S0 3 bc bs (JX1_measure sK bc bs this Ex Qj) 0 [some (.ref this), none, none] [] := by
  unfold JX1_measure
  refine jr_aload_n K dX1_measure_0 rfl ?_
  refine jr_calli0 (jrun_V (As := []) (st := []) (ci := 1) K (metX1_use K.hG this _) mtX1_use mvX1_use q838 rfl rfl rfl (Nat.le_of_ble_eq_true rfl) (by decide) ⟨Nat.zero_le _, Nat.zero_le _⟩ dX1_measure_1) (fun v1 => ?_)
  refine jr_istore_n K (L' := [some (.ref this), some (.int v1), none]) dX1_measure_4 (by decide) rfl rfl ?_
  refine jr_aload_n K dX1_measure_5 rfl ?_
  refine jr_getA K gf_X1_19 dX1_measure_6 (fun v6 => ?_)
  refine jr_aload_n K dX1_measure_9 rfl ?_
  refine jr_getA K gf_X1_10 dX1_measure_10 (fun v10 => ?_)
  refine jr_iload_n K dX1_measure_13 rfl ?_
  refine jr_bud (fun mc14 ms14 hmc14 hms14 => ?_)
  refine jrx_callr ⟨hmc14, hms14⟩ (jrunx_V (As := [.int v1]) (st := [.ref v6]) (ci := 2) K (metX2_measure K.hG hS mc14 ms14 v10 v1 _ _) mtX2_measure mvX2_measure q1135 rfl rfl rfl (Nat.le_of_ble_eq_true rfl) (by decide) ⟨hmc14, hms14⟩ dX1_measure_14) (fun xx14 xq14 => ?_) (fun v14 => ?_)
  · refine jt_if (fun hx0 => ?_) (fun hx0 => ?_)
    · subst hx0
      refine jt_catch0 K htb rfl (by decide) (by decide) q837 q182 ?_
      refine jr_astore_n K (L' := [some (.ref this), some (.int v1), some (.ref xq14)]) dX1_measure_23 (by decide) rfl rfl ?_
      refine jr_aload_n K dX1_measure_24 rfl ?_
      refine jr_aload_n K dX1_measure_25 rfl ?_
      refine jr_getI K gf_X1_133 dX1_measure_26 (fun v26 => ?_)
      refine jr_put K pf_X1_69 dX1_measure_29 rfl rfl ?_
      exact jr_throw K hEx jxok_X1_0 (Nat.le_of_ble_eq_true rfl) (by unfold jcov; decide) dX1_measure_32 dX1_measure_35 dX1_measure_36 dX1_measure_39
    exact JT.bot
  refine jr_put K pf_X1_150 dX1_measure_17 rfl rfl ?_
  refine jr_goto K (tgt := 40) dX1_measure_20 (by decide) ?_
  refine jr_aload_n K dX1_measure_40 rfl ?_
  refine jr_getA K gf_X1_19 dX1_measure_41 (fun v41 => ?_)
  refine jr_getO K gf_X1_150 dX1_measure_44 (fun v44 => ?_)
  refine jr_some (fun u47 hs47 => ?_)
  subst hs47
  refine jr_getA K gf_X1_153 dX1_measure_47 (fun v47 => ?_)
  refine jr_alen K dX1_measure_50 (fun v50 => ?_)
  exact hret _ _ _ _ _ dX1_measure_51
theorem metX1_measure (hG : jG l D S0 A0) {sK : Nat → Nat} (hS : jSt S0 sK) (bc : Nat) (bs : Nat) (this : Nat) (Ex : Nat → Nat → JP) (Qj : Int32 → JP) : vx_Met l yX1_measure (wsW_ yX1_measure cX1_measure 3 (some .int) [(5, 20, 23, 131)]) (jrm 64 bc bs) (va_Pc [.ref this] (jB D S0 (JX1_measure sK bc bs this Ex Qj))) (va_Qi Qj (fun σ t => jRep D S0.heap.size σ t.heap) (jA S0)) (jXC D S0 Ex) bc bs (jA S0) :=
  jx_startW hG (by decide) (by decide) (Nat.le_of_ble_eq_true rfl) rfl fun p e s m below meth c K hr htb hEx => wX1_measure K htb sK bc bs this Ex Qj hS hEx (fun _ _ _ _ _ d => jr_xret jx_mq (jr_iret K hr rfl d))
theorem wX0_measure (K : JK p l R s m args meth c D S0 A0 3 cX0_measure "MoveNotesLaw" 65) (htb : c.exceptionTable.toList = tableOf [(0, 8, 11, 13)]) (sK : Nat → Nat) (bc : Nat) (bs : Nat) (p0 : Nat) (p1 : Nat) (Qj : Int32 → JP) (hS : jSt S0 sK) (hret : jRetI p l e R s m args below meth c Q D S0 3 cX0_measure Qj) : JR p l e R s m args below meth c Q D S0 3 bc bs (JX0_measure sK bc bs p0 p1 Qj) 0 [some (.ref p0), some (.ref p1), none] [] := by
  unfold JX0_measure
  refine jr_aload_n K dX0_measure_0 rfl ?_
  refine jr_iconst K dX0_measure_1 (v := (nI 0)) (by decide) ?_
  refine jr_aload_n K dX0_measure_2 rfl ?_
  refine jr_bud (fun mc3 ms3 hmc3 hms3 => ?_)
  refine jrx_calli ⟨hmc3, hms3⟩ (jrunx_VW (As := []) (st := [.int (nI 0), .ref p1]) (ci := 1) K (metX1_measure K.hG hS mc3 ms3 p0 _ _) mtX1_measure mvX1_measure q1131 rfl rfl rfl (Nat.le_of_ble_eq_true rfl) (by decide) ⟨hmc3, hms3⟩ dX0_measure_3) (fun xx3 xq3 => ?_) (fun v3 => ?_)
  · refine jt_if (fun hx0 => ?_) (fun hx0 => ?_)
    · subst hx0
      refine jt_catch0 K htb rfl (by decide) (by decide) q831 q1088 ?_
      refine jr_astore_n K (L' := [some (.ref p0), some (.ref p1), some (.ref xq3)]) dX0_measure_11 (by decide) rfl rfl ?_
      refine jr_iconst K dX0_measure_12 (v := (nI 1)) (by decide) ?_
      exact hret _ _ _ _ _ dX0_measure_13
    exact JT.bot
  refine jr_i2l K dX0_measure_6 ?_
  refine jr_last K dX0_measure_7 ?_
  refine jr_goto K (tgt := 14) dX0_measure_8 (by decide) ?_
  refine jr_iconst K dX0_measure_14 (v := (nI 0)) (by decide) ?_
  exact hret _ _ _ _ _ dX0_measure_15
theorem metX0_measure (hG : jG l D S0 A0) {sK : Nat → Nat} (hS : jSt S0 sK) (bc : Nat) (bs : Nat) (p0 : Nat) (p1 : Nat) (Qj : Int32 → JP) : Met l yX0_measure (wsW_ yX0_measure cX0_measure 3 (some .int) [(0, 8, 11, 13)]) (jrm 65 bc bs) (va_Pc [.ref p0, .ref p1] (jB D S0 (JX0_measure sK bc bs p0 p1 Qj))) (va_Qi Qj (fun σ t => jRep D S0.heap.size σ t.heap) (jA S0)) bc bs (jA S0) :=
  jr_startW hG (by decide) (Nat.le_of_ble_eq_true rfl) rfl fun p e s m below meth c K hr hn htb => wX0_measure K htb sK bc bs p0 p1 Qj hS (fun _ _ _ _ _ d => jr_iret K hr rfl d)
theorem wX1_fault (K : JK p l R s m args meth c D S0 A0 1 cX1_fault "MoveNotes" 12) (bc bs : Nat) (this : Nat) (Qj : Int32 → JP) (hret : jRetI p l e R s m args below meth c Q D S0 1 cX1_fault Qj) : JR p l e R s m args below meth c Q D S0 1 bc bs (JX1_fault this Qj) 0 [some (.ref this)] [] := by
  unfold JX1_fault
  refine jr_aload_n K dX1_fault_0 rfl ?_
  refine jr_getI K gf_X1_69 dX1_fault_1 (fun v1 => ?_)
  exact hret _ _ _ _ _ dX1_fault_4
theorem metX1_fault (hG : jG l D S0 A0) (this : Nat) (Qj : Int32 → JP) : Met l yX1_fault (ws_ yX1_fault cX1_fault 1 (some .int)) (jrm 12 0 0) (va_Pc [.ref this] (jB D S0 (JX1_fault this Qj))) (va_Qi Qj (fun σ t => jRep D S0.heap.size σ t.heap) (jA S0)) 0 0 (jA S0) :=
  jr_start hG (by decide) (Nat.le_of_ble_eq_true rfl) rfl fun p e s m below meth c K hr hn => wX1_fault K _ _ this Qj (fun _ _ _ _ _ d => jr_iret K hr rfl d)
theorem wX1_mustBe (K : JK p l R s m args meth c D S0 A0 1 cX1_mustBe "MoveNotes" 12) (bc : Nat) (bs : Nat) (p0 : Int32) (Ex : Nat → Nat → JP) (Qj : JP) (hEx : jThr p l e R s m args below meth c Q D S0 1 cX1_mustBe "MoveNotes" [] Ex) (hret : jRetV p l e R s m args below meth c Q D S0 1 cX1_mustBe Qj) : JR p l e R s m args below meth c Q D S0 1 bc bs (JX1_mustBe bc bs p0 Ex Qj) 0 [some (.int p0)] [] := by
  unfold JX1_mustBe
  refine jr_iload_n K dX1_mustBe_0 rfl ?_
  refine jr_if_ne K (tgt := 12) dX1_mustBe_1 (by decide) ?_ ?_
  · exact hret _ _ _ _ dX1_mustBe_12
  · exact jr_throw K hEx jxok_X1_2 (Nat.le_of_ble_eq_true rfl) (fun _ h => nomatch h) dX1_mustBe_4 dX1_mustBe_7 dX1_mustBe_8 dX1_mustBe_11
theorem metX1_mustBe (hG : jG l D S0 A0) (bc : Nat) (bs : Nat) (p0 : Int32) (Ex : Nat → Nat → JP) (Qj : JP) : vx_Met l yX1_mustBe (ws_ yX1_mustBe cX1_mustBe 1 none) (jrm 12 bc bs) (va_Pc [.int p0] (jB D S0 (JX1_mustBe bc bs p0 Ex Qj))) (va_Qv Qj (fun σ t => jRep D S0.heap.size σ t.heap) (jA S0)) (jXC D S0 Ex) bc bs (jA S0) :=
  jx_start hG (by decide) (by decide) (Nat.le_of_ble_eq_true rfl) rfl fun p e s m below meth c K hr hEx => wX1_mustBe K bc bs p0 Ex Qj hEx (fun _ _ _ _ d => jr_xret jx_mq (jr_vret K hr d))
theorem wX1_isSquare (K : JK p l R s m args meth c D S0 A0 1 cX1_isSquare "MoveNotes" 13) (bc : Nat) (bs : Nat) (p0 : Int32) (Ex : Nat → Nat → JP) (Qj : JP) (hEx : jThr p l e R s m args below meth c Q D S0 1 cX1_isSquare "MoveNotes" [] Ex) (hret : jRetV p l e R s m args below meth c Q D S0 1 cX1_isSquare Qj) : JR p l e R s m args below meth c Q D S0 1 bc bs (JX1_isSquare bc bs p0 Ex Qj) 0 [some (.int p0)] [] := by
  unfold JX1_isSquare
  refine jr_iload_n K dX1_isSquare_0 rfl ?_
  refine jr_iconst K dX1_isSquare_1 (v := (nI 0)) (by decide) ?_
  refine jr_bipush K dX1_isSquare_2 (v := (nI 35)) (by decide) ?_
  refine jr_calli0 (jrun_S (As := [.int p0, .int (nI 0), .int (nI 35)]) (st := []) K (metX1_isIn K.hG p0 (nI 0) (nI 35) _) mtX1_isIn q586 q585 rfl rfl (Nat.le_of_ble_eq_true rfl) (by decide) ⟨Nat.zero_le _, Nat.zero_le _⟩ dX1_isSquare_4) (fun v4 => ?_)
  refine jr_bud (fun mc7 ms7 hmc7 hms7 => ?_)
  refine jrx_callv ⟨hmc7, hms7⟩ (jrunx_S (As := [.int v4]) (st := []) K (metX1_mustBe K.hG mc7 ms7 v4 Ex _) mtX1_mustBe q1195 q1194 rfl rfl (Nat.le_of_ble_eq_true rfl) (by decide) ⟨hmc7, hms7⟩ dX1_isSquare_7) (fun x q => hEx.1 _ _ _ _ x q (fun _ h => nomatch h)) ?_
  exact hret _ _ _ _ dX1_isSquare_10
theorem metX1_isSquare (hG : jG l D S0 A0) (bc : Nat) (bs : Nat) (p0 : Int32) (Ex : Nat → Nat → JP) (Qj : JP) : vx_Met l yX1_isSquare (ws_ yX1_isSquare cX1_isSquare 1 none) (jrm 13 bc bs) (va_Pc [.int p0] (jB D S0 (JX1_isSquare bc bs p0 Ex Qj))) (va_Qv Qj (fun σ t => jRep D S0.heap.size σ t.heap) (jA S0)) (jXC D S0 Ex) bc bs (jA S0) :=
  jx_start hG (by decide) (by decide) (Nat.le_of_ble_eq_true rfl) rfl fun p e s m below meth c K hr hEx => wX1_isSquare K bc bs p0 Ex Qj hEx (fun _ _ _ _ d => jr_xret jx_mq (jr_vret K hr d))
theorem wX1_isKind (K : JK p l R s m args meth c D S0 A0 3 cX1_isKind "MoveNotes" 13) (bc : Nat) (bs : Nat) (this : Nat) (p1 : Int32) (p2 : Int32) (Ex : Nat → Nat → JP) (Qj : JP) (hEx : jThr p l e R s m args below meth c Q D S0 3 cX1_isKind "MoveNotes" [] Ex) (hret : jRetV p l e R s m args below meth c Q D S0 3 cX1_isKind Qj) : JR p l e R s m args below meth c Q D S0 3 bc bs (JX1_isKind bc bs this p1 p2 Ex Qj) 0 [some (.ref this), some (.int p1), some (.int p2)] [] := by
  unfold JX1_isKind
  refine jr_iload_n K dX1_isKind_0 rfl ?_
  refine jr_iload_n K dX1_isKind_1 rfl ?_
  refine jr_aload_n K dX1_isKind_2 rfl ?_
  refine jr_getA K gf_X1_19 dX1_isKind_3 (fun v3 => ?_)
  refine jr_getI K gf_X1_93 dX1_isKind_6 (fun v6 => ?_)
  refine jr_iconst K dX1_isKind_9 (v := (nI 1)) (by decide) ?_
  refine jr_isub K dX1_isKind_10 ?_
  refine jr_calli0 (jrun_S (As := [.int p1, .int p2, .int (v6 - (nI 1))]) (st := []) K (metX1_isIn K.hG p1 p2 (v6 - (nI 1)) _) mtX1_isIn q586 q585 rfl rfl (Nat.le_of_ble_eq_true rfl) (by decide) ⟨Nat.zero_le _, Nat.zero_le _⟩ dX1_isKind_11) (fun v11 => ?_)
  refine jr_bud (fun mc14 ms14 hmc14 hms14 => ?_)
  refine jrx_callv ⟨hmc14, hms14⟩ (jrunx_S (As := [.int v11]) (st := []) K (metX1_mustBe K.hG mc14 ms14 v11 Ex _) mtX1_mustBe q1195 q1194 rfl rfl (Nat.le_of_ble_eq_true rfl) (by decide) ⟨hmc14, hms14⟩ dX1_isKind_14) (fun x q => hEx.1 _ _ _ _ x q (fun _ h => nomatch h)) ?_
  exact hret _ _ _ _ dX1_isKind_17
theorem metX1_isKind (hG : jG l D S0 A0) (bc : Nat) (bs : Nat) (this : Nat) (p1 : Int32) (p2 : Int32) (Ex : Nat → Nat → JP) (Qj : JP) : vx_Met l yX1_isKind (ws_ yX1_isKind cX1_isKind 3 none) (jrm 13 bc bs) (va_Pc [.ref this, .int p1, .int p2] (jB D S0 (JX1_isKind bc bs this p1 p2 Ex Qj))) (va_Qv Qj (fun σ t => jRep D S0.heap.size σ t.heap) (jA S0)) (jXC D S0 Ex) bc bs (jA S0) :=
  jx_start hG (by decide) (by decide) (Nat.le_of_ble_eq_true rfl) rfl fun p e s m below meth c K hr hEx => wX1_isKind K bc bs this p1 p2 Ex Qj hEx (fun _ _ _ _ d => jr_xret jx_mq (jr_vret K hr d))
theorem wX1_put (K : JK p l R s m args meth c D S0 A0 4 cX1_put "MoveNotes" 14) (bc : Nat) (bs : Nat) (this : Nat) (p1 : Int32) (p2 : Int32) (p3 : Int32) (Ex : Nat → Nat → JP) (Qj : JP) (hEx : jThr p l e R s m args below meth c Q D S0 4 cX1_put "MoveNotes" [] Ex) (hret : jRetV p l e R s m args below meth c Q D S0 4 cX1_put Qj) : JR p l e R s m args below meth c Q D S0 4 bc bs (JX1_put bc bs this p1 p2 p3 Ex Qj) 0 [some (.ref this), some (.int p1), some (.int p2), some (.int p3)] [] := by
  unfold JX1_put
  refine jr_iload_n K dX1_put_0 rfl ?_
  refine jr_bud (fun mc1 ms1 hmc1 hms1 => ?_)
  refine jrx_callv ⟨hmc1, hms1⟩ (jrunx_S (As := [.int p1]) (st := []) K (metX1_isSquare K.hG mc1 ms1 p1 Ex _) mtX1_isSquare q1192 q1191 rfl rfl (Nat.le_of_ble_eq_true rfl) (by decide) ⟨hmc1, hms1⟩ dX1_put_1) (fun x q => hEx.1 _ _ _ _ x q (fun _ h => nomatch h)) ?_
  refine jr_aload_n K dX1_put_4 rfl ?_
  refine jr_iload_n K dX1_put_5 rfl ?_
  refine jr_iconst K dX1_put_6 (v := (-1)) (by decide) ?_
  refine jr_bud (fun mc7 ms7 hmc7 hms7 => ?_)
  refine jrx_callv ⟨hmc7, hms7⟩ (jrunx_V (As := [.int p2, .int (-1)]) (st := []) (ci := 1) K (metX1_isKind K.hG mc7 ms7 this p2 (-1) Ex _) mtX1_isKind mvX1_isKind q1212 rfl rfl rfl (Nat.le_of_ble_eq_true rfl) (by decide) ⟨hmc7, hms7⟩ dX1_put_7) (fun x q => hEx.1 _ _ _ _ x q (fun _ h => nomatch h)) ?_
  refine jr_iload_n K dX1_put_10 rfl ?_
  refine jr_iconst K dX1_put_11 (v := (-1)) (by decide) ?_
  refine jr_join (fun (k29 : Int32 → JP) => ∀ (s0_29 : Int32), JR p l e R s m args below meth c Q D S0 4 ((bc - mc1) - mc7) ((bs - ms1) - ms7) (k29 s0_29) 29 [some (.ref this), some (.int p1), some (.int p2), some (.int p3)] [.int s0_29]) ?_ (fun k29 hk29 => ?_)
  · intro s0_29
    refine jr_bud (fun mc29 ms29 hmc29 hms29 => ?_)
    refine jrx_callv ⟨hmc29, hms29⟩ (jrunx_S (As := [.int s0_29]) (st := []) K (metX1_must K.hG mc29 ms29 s0_29 Ex _) mtX1_must q1108 q1107 rfl rfl (Nat.le_of_ble_eq_true rfl) (by decide) ⟨hmc29, hms29⟩ dX1_put_29) (fun x q => hEx.1 _ _ _ _ x q (fun _ h => nomatch h)) ?_
    refine jr_aload_n K dX1_put_32 rfl ?_
    refine jr_getA K gf_X1_19 dX1_put_33 (fun v33 => ?_)
    refine jr_getA K gf_X1_166 dX1_put_36 (fun v36 => ?_)
    refine jr_getA K gf_X1_169 dX1_put_39 (fun v39 => ?_)
    refine jr_iload_n K dX1_put_42 rfl ?_
    refine jr_iload_n K dX1_put_43 rfl ?_
    refine jr_iast K dX1_put_44 ?_
    refine jr_aload_n K dX1_put_45 rfl ?_
    refine jr_getA K gf_X1_19 dX1_put_46 (fun v46 => ?_)
    refine jr_getA K gf_X1_166 dX1_put_49 (fun v49 => ?_)
    refine jr_getA K gf_X1_171 dX1_put_52 (fun v52 => ?_)
    refine jr_iload_n K dX1_put_55 rfl ?_
    refine jr_iload_n K dX1_put_56 rfl ?_
    refine jr_iconst K dX1_put_57 (v := (-1)) (by decide) ?_
    refine jr_join (fun (k66 : Int32 → JP) => ∀ (s2_66 : Int32), JR p l e R s m args below meth c Q D S0 4 (((bc - mc1) - mc7) - mc29) (((bs - ms1) - ms7) - ms29) (k66 s2_66) 66 [some (.ref this), none, none, none] [.int s2_66, .int p1, .ref v52]) ?_ (fun k66 hk66 => ?_)
    · intro s2_66
      refine jr_iast K dX1_put_66 ?_
      refine jr_aload_n K dX1_put_67 rfl ?_
      refine jr_iconst K dX1_put_68 (v := (nI 0)) (by decide) ?_
      refine jr_putZ K pf_X1_174 dX1_put_69 ?_
      exact hret _ _ _ _ dX1_put_72
    refine jr_icmp_ne K (tgt := 65) dX1_put_58 (by decide) ?_ ?_
    · refine jr_iload_n K dX1_put_65 rfl ?_
      exact jr_weak (hk66 p3) ⟨rfl, trivial⟩
    · refine jr_iconst K dX1_put_61 (v := (nI 0)) (by decide) ?_
      refine jr_goto K (tgt := 66) dX1_put_62 (by decide) ?_
      exact jr_weak (hk66 (nI 0)) ⟨rfl, trivial⟩
  refine jr_join (fun (k24 : JP) => JR p l e R s m args below meth c Q D S0 4 ((bc - mc1) - mc7) ((bs - ms1) - ms7) k24 24 [some (.ref this), some (.int p1), some (.int p2), some (.int p3)] []) ?_ (fun k24 hk24 => ?_)
  · refine jr_iconst K dX1_put_24 (v := (nI 1)) (by decide) ?_
    refine jr_goto K (tgt := 29) dX1_put_25 (by decide) ?_
    exact jr_weak (hk29 (nI 1)) ⟨rfl, rfl, rfl, rfl, trivial⟩
  refine jr_icmp_eq K (tgt := 24) dX1_put_12 (by decide) ?_ ?_
  · exact jr_weak (hk24) ⟨rfl, rfl, rfl, rfl, trivial⟩
  · refine jr_iload_n K dX1_put_15 rfl ?_
    refine jr_iconst K dX1_put_16 (v := (nI 0)) (by decide) ?_
    refine jr_iconst K dX1_put_17 (v := (nI 1)) (by decide) ?_
    refine jr_calli0 (jrun_S (As := [.int p3, .int (nI 0), .int (nI 1)]) (st := []) K (metX1_isIn K.hG p3 (nI 0) (nI 1) _) mtX1_isIn q586 q585 rfl rfl (Nat.le_of_ble_eq_true rfl) (by decide) ⟨Nat.zero_le _, Nat.zero_le _⟩ dX1_put_18) (fun v18 => ?_)
    refine jr_if_eq K (tgt := 28) dX1_put_21 (by decide) ?_ ?_
    · refine jr_iconst K dX1_put_28 (v := (nI 0)) (by decide) ?_
      exact jr_weak (hk29 (nI 0)) ⟨rfl, rfl, rfl, rfl, trivial⟩
    · exact jr_weak (hk24) ⟨rfl, rfl, rfl, rfl, trivial⟩
theorem metX1_put (hG : jG l D S0 A0) (bc : Nat) (bs : Nat) (this : Nat) (p1 : Int32) (p2 : Int32) (p3 : Int32) (Ex : Nat → Nat → JP) (Qj : JP) : vx_Met l yX1_put (ws_ yX1_put cX1_put 4 none) (jrm 14 bc bs) (va_Pc [.ref this, .int p1, .int p2, .int p3] (jB D S0 (JX1_put bc bs this p1 p2 p3 Ex Qj))) (va_Qv Qj (fun σ t => jRep D S0.heap.size σ t.heap) (jA S0)) (jXC D S0 Ex) bc bs (jA S0) :=
  jx_start hG (by decide) (by decide) (Nat.le_of_ble_eq_true rfl) rfl fun p e s m below meth c K hr hEx => wX1_put K bc bs this p1 p2 p3 Ex Qj hEx (fun _ _ _ _ d => jr_xret jx_mq (jr_vret K hr d))
theorem wX0_put (K : JK p l R s m args meth c D S0 A0 5 cX0_put "MoveNotesLaw" 15) (htb : c.exceptionTable.toList = tableOf [(0, 7, 10, 25), (0, 7, 14, 13)]) (bc : Nat) (bs : Nat) (p0 : Nat) (p1 : Int32) (p2 : Int32) (p3 : Int32) (Qj : Int32 → JP) (hret : jRetI p l e R s m args below meth c Q D S0 5 cX0_put Qj) : JR p l e R s m args below meth c Q D S0 5 bc bs (JX0_put bc bs p0 p1 p2 p3 Qj) 0 [some (.ref p0), some (.int p1), some (.int p2), some (.int p3), none] [] := by
  unfold JX0_put
  refine jr_aload_n K dX0_put_0 rfl ?_
  refine jr_iload_n K dX0_put_1 rfl ?_
  refine jr_iload_n K dX0_put_2 rfl ?_
  refine jr_iload_n K dX0_put_3 rfl ?_
  refine jr_bud (fun mc4 ms4 hmc4 hms4 => ?_)
  refine jrx_callv ⟨hmc4, hms4⟩ (jrunx_V (As := [.int p1, .int p2, .int p3]) (st := []) (ci := 1) K (metX1_put K.hG mc4 ms4 p0 p1 p2 p3 _ _) mtX1_put mvX1_put q1187 rfl rfl rfl (Nat.le_of_ble_eq_true rfl) (by decide) ⟨hmc4, hms4⟩ dX0_put_4) (fun xx4 xq4 => ?_) ?_
  · refine jt_if (fun hx0 => ?_) (fun hx0 => ?_)
    · subst hx0
      refine jt_catch0 K htb rfl (by decide) (by decide) q1155 q1199 ?_
      refine jr_astore K (L' := [some (.ref p0), some (.int p1), some (.int p2), some (.int p3), some (.ref xq4)]) dX0_put_10 (by decide) rfl rfl ?_
      refine jr_iconst K dX0_put_12 (v := (nI 1)) (by decide) ?_
      exact hret _ _ _ _ _ dX0_put_13
    refine jt_if (fun hx1 => ?_) (fun hx1 => ?_)
    · subst hx1
      refine jt_catch1 K htb rfl (by decide) (by decide) q1155 (by decide) (jncast K (by decide +kernel)) q831 q1088 ?_
      refine jr_astore K (L' := [some (.ref p0), some (.int p1), some (.int p2), some (.int p3), some (.ref xq4)]) dX0_put_14 (by decide) rfl rfl ?_
      refine jr_iconst K dX0_put_16 (v := (nI 2)) (by decide) ?_
      exact hret _ _ _ _ _ dX0_put_17
    exact JT.bot
  refine jr_goto K (tgt := 18) dX0_put_7 (by decide) ?_
  refine jr_iconst K dX0_put_18 (v := (nI 0)) (by decide) ?_
  exact hret _ _ _ _ _ dX0_put_19
theorem metX0_put (hG : jG l D S0 A0) (bc : Nat) (bs : Nat) (p0 : Nat) (p1 : Int32) (p2 : Int32) (p3 : Int32) (Qj : Int32 → JP) : Met l yX0_put (wsW_ yX0_put cX0_put 5 (some .int) [(0, 7, 10, 25), (0, 7, 14, 13)]) (jrm 15 bc bs) (va_Pc [.ref p0, .int p1, .int p2, .int p3] (jB D S0 (JX0_put bc bs p0 p1 p2 p3 Qj))) (va_Qi Qj (fun σ t => jRep D S0.heap.size σ t.heap) (jA S0)) bc bs (jA S0) :=
  jr_startW hG (by decide) (Nat.le_of_ble_eq_true rfl) rfl fun p e s m below meth c K hr hn htb => wX0_put K htb bc bs p0 p1 p2 p3 Qj (fun _ _ _ _ _ d => jr_iret K hr rfl d)
theorem wX1_moves (K : JK p l R s m args meth c D S0 A0 4 cX1_moves "MoveNotes" 15) (bc : Nat) (bs : Nat) (this : Nat) (p1 : Int32) (p2 : Int32) (Ex : Nat → Nat → JP) (Qj : Int32 → JP) (hEx : jThr p l e R s m args below meth c Q D S0 4 cX1_moves "MoveNotes" [] Ex) (hret : jRetI p l e R s m args below meth c Q D S0 4 cX1_moves Qj) : JR p l e R s m args below meth c Q D S0 4 bc bs (JX1_moves bc bs this p1 p2 Ex Qj) 0 [some (.ref this), some (.int p1), some (.int p2), none] [] := by
  unfold JX1_moves
  refine jr_iload_n K dX1_moves_0 rfl ?_
  refine jr_iconst K dX1_moves_1 (v := (nI 0)) (by decide) ?_
  refine jr_iconst K dX1_moves_2 (v := (nI 1)) (by decide) ?_
  refine jr_calli0 (jrun_S (As := [.int p1, .int (nI 0), .int (nI 1)]) (st := []) K (metX1_isIn K.hG p1 (nI 0) (nI 1) _) mtX1_isIn q586 q585 rfl rfl (Nat.le_of_ble_eq_true rfl) (by decide) ⟨Nat.zero_le _, Nat.zero_le _⟩ dX1_moves_3) (fun v3 => ?_)
  refine jr_join (fun (k19 : Int32 → JP) => ∀ (s0_19 : Int32), JR p l e R s m args below meth c Q D S0 4 bc bs (k19 s0_19) 19 [some (.ref this), some (.int p1), some (.int p2), none] [.int s0_19]) ?_ (fun k19 hk19 => ?_)
  · intro s0_19
    refine jr_bud (fun mc19 ms19 hmc19 hms19 => ?_)
    refine jrx_callv ⟨hmc19, hms19⟩ (jrunx_S (As := [.int s0_19]) (st := []) K (metX1_must K.hG mc19 ms19 s0_19 Ex _) mtX1_must q1108 q1107 rfl rfl (Nat.le_of_ble_eq_true rfl) (by decide) ⟨hmc19, hms19⟩ dX1_moves_19) (fun x q => hEx.1 _ _ _ _ x q (fun _ h => nomatch h)) ?_
    refine jr_aload_n K dX1_moves_22 rfl ?_
    refine jr_getA K gf_X1_35 dX1_moves_23 (fun v23 => ?_)
    refine jr_aload_n K dX1_moves_26 rfl ?_
    refine jr_getA K gf_X1_19 dX1_moves_27 (fun v27 => ?_)
    refine jr_getA K gf_X1_166 dX1_moves_30 (fun v30 => ?_)
    refine jr_iload_n K dX1_moves_33 rfl ?_
    refine jr_aload_n K dX1_moves_34 rfl ?_
    refine jr_getA K gf_X1_59 dX1_moves_35 (fun v35 => ?_)
    refine jr_calli0 (jrun_V (As := [.ref v30, .int p1, .ref v35]) (st := []) (ci := 10) K (metX10_gathers K.hG v23 v30 p1 v35 _) mtX10_gathers mvX10_gathers q1223 rfl rfl rfl (Nat.le_of_ble_eq_true rfl) (by decide) ⟨Nat.zero_le _, Nat.zero_le _⟩ dX1_moves_38) (fun v38 => ?_)
    refine jr_istore_n K (L' := [some (.ref this), some (.int p1), some (.int p2), some (.int v38)]) dX1_moves_41 (by decide) rfl rfl ?_
    refine jr_iload_n K dX1_moves_42 rfl ?_
    refine jr_iconst K dX1_moves_43 (v := (-1)) (by decide) ?_
    refine jr_icmp_ne K (tgt := 51) dX1_moves_44 (by decide) ?_ ?_
    · refine jr_iload_n K dX1_moves_51 rfl ?_
      refine jr_iload_n K dX1_moves_52 rfl ?_
      refine jr_icmp_ge K (tgt := 65) dX1_moves_53 (by decide) ?_ ?_
      · refine jr_iconst K dX1_moves_65 (v := (-1)) (by decide) ?_
        exact hret _ _ _ _ _ dX1_moves_66
      · refine jr_aload_n K dX1_moves_56 rfl ?_
        refine jr_getA K gf_X1_59 dX1_moves_57 (fun v57 => ?_)
        refine jr_iload_n K dX1_moves_60 rfl ?_
        refine jr_iald K dX1_moves_61 (fun v61 => ?_)
        refine jr_goto K (tgt := 66) dX1_moves_62 (by decide) ?_
        exact hret _ _ _ _ _ dX1_moves_66
    · refine jr_iload_n K dX1_moves_47 rfl ?_
      refine jr_goto K (tgt := 66) dX1_moves_48 (by decide) ?_
      exact hret _ _ _ _ _ dX1_moves_66
  refine jr_join (fun (k18 : JP) => JR p l e R s m args below meth c Q D S0 4 bc bs k18 18 [some (.ref this), some (.int p1), some (.int p2), none] []) ?_ (fun k18 hk18 => ?_)
  · refine jr_iconst K dX1_moves_18 (v := (nI 0)) (by decide) ?_
    exact jr_weak (hk19 (nI 0)) ⟨rfl, rfl, rfl, trivial⟩
  refine jr_if_eq K (tgt := 18) dX1_moves_6 (by decide) ?_ ?_
  · exact jr_weak (hk18) ⟨rfl, rfl, rfl, trivial⟩
  · refine jr_iload_n K dX1_moves_9 rfl ?_
    refine jr_iconst K dX1_moves_10 (v := (-1)) (by decide) ?_
    refine jr_icmp_lt K (tgt := 18) dX1_moves_11 (by decide) ?_ ?_
    · exact jr_weak (hk18) ⟨rfl, rfl, rfl, trivial⟩
    · refine jr_iconst K dX1_moves_14 (v := (nI 1)) (by decide) ?_
      refine jr_goto K (tgt := 19) dX1_moves_15 (by decide) ?_
      exact jr_weak (hk19 (nI 1)) ⟨rfl, rfl, rfl, trivial⟩
theorem metX1_moves (hG : jG l D S0 A0) (bc : Nat) (bs : Nat) (this : Nat) (p1 : Int32) (p2 : Int32) (Ex : Nat → Nat → JP) (Qj : Int32 → JP) : vx_Met l yX1_moves (ws_ yX1_moves cX1_moves 4 (some .int)) (jrm 15 bc bs) (va_Pc [.ref this, .int p1, .int p2] (jB D S0 (JX1_moves bc bs this p1 p2 Ex Qj))) (va_Qi Qj (fun σ t => jRep D S0.heap.size σ t.heap) (jA S0)) (jXC D S0 Ex) bc bs (jA S0) :=
  jx_start hG (by decide) (by decide) (Nat.le_of_ble_eq_true rfl) rfl fun p e s m below meth c K hr hEx => wX1_moves K bc bs this p1 p2 Ex Qj hEx (fun _ _ _ _ _ d => jr_xret jx_mq (jr_iret K hr rfl d))
theorem wX0_moves (K : JK p l R s m args meth c D S0 A0 5 cX0_moves "MoveNotesLaw" 16) (htb : c.exceptionTable.toList = tableOf [(0, 10, 13, 13)]) (bc : Nat) (bs : Nat) (p0 : Nat) (p1 : Int32) (p2 : Int32) (p3 : Nat) (Qj : Int32 → JP) (hret : jRetI p l e R s m args below meth c Q D S0 5 cX0_moves Qj) : JR p l e R s m args below meth c Q D S0 5 bc bs (JX0_moves bc bs p0 p1 p2 p3 Qj) 0 [some (.ref p0), some (.int p1), some (.int p2), some (.ref p3), none] [] := by
  unfold JX0_moves
  refine jr_aload_n K dX0_moves_0 rfl ?_
  refine jr_iconst K dX0_moves_1 (v := (nI 0)) (by decide) ?_
  refine jr_aload_n K dX0_moves_2 rfl ?_
  refine jr_iload_n K dX0_moves_3 rfl ?_
  refine jr_iload_n K dX0_moves_4 rfl ?_
  refine jr_bud (fun mc5 ms5 hmc5 hms5 => ?_)
  refine jrx_calli ⟨hmc5, hms5⟩ (jrunx_V (As := [.int p1, .int p2]) (st := [.int (nI 0), .ref p3]) (ci := 1) K (metX1_moves K.hG mc5 ms5 p0 p1 p2 _ _) mtX1_moves mvX1_moves q1219 rfl rfl rfl (Nat.le_of_ble_eq_true rfl) (by decide) ⟨hmc5, hms5⟩ dX0_moves_5) (fun xx5 xq5 => ?_) (fun v5 => ?_)
  · refine jt_if (fun hx0 => ?_) (fun hx0 => ?_)
    · subst hx0
      refine jt_catch0 K htb rfl (by decide) (by decide) q831 q1088 ?_
      refine jr_astore K (L' := [some (.ref p0), some (.int p1), some (.int p2), some (.ref p3), some (.ref xq5)]) dX0_moves_13 (by decide) rfl rfl ?_
      refine jr_iconst K dX0_moves_15 (v := (nI 1)) (by decide) ?_
      exact hret _ _ _ _ _ dX0_moves_16
    exact JT.bot
  refine jr_i2l K dX0_moves_8 ?_
  refine jr_last K dX0_moves_9 ?_
  refine jr_goto K (tgt := 17) dX0_moves_10 (by decide) ?_
  refine jr_iconst K dX0_moves_17 (v := (nI 0)) (by decide) ?_
  exact hret _ _ _ _ _ dX0_moves_18
theorem metX0_moves (hG : jG l D S0 A0) (bc : Nat) (bs : Nat) (p0 : Nat) (p1 : Int32) (p2 : Int32) (p3 : Nat) (Qj : Int32 → JP) : Met l yX0_moves (wsW_ yX0_moves cX0_moves 5 (some .int) [(0, 10, 13, 13)]) (jrm 16 bc bs) (va_Pc [.ref p0, .int p1, .int p2, .ref p3] (jB D S0 (JX0_moves bc bs p0 p1 p2 p3 Qj))) (va_Qi Qj (fun σ t => jRep D S0.heap.size σ t.heap) (jA S0)) bc bs (jA S0) :=
  jr_startW hG (by decide) (Nat.le_of_ble_eq_true rfl) rfl fun p e s m below meth c K hr hn htb => wX0_moves K htb bc bs p0 p1 p2 p3 Qj (fun _ _ _ _ _ d => jr_iret K hr rfl d)
theorem wX1_newBook (K : JK p l R s m args meth c D S0 A0 3 cX1_newBook "MoveNotes" 12) (bc bs : Nat) (this : Nat) (p1 : Int32) (Qj : Int32 → JP) (hret : jRetI p l e R s m args below meth c Q D S0 3 cX1_newBook Qj) : JR p l e R s m args below meth c Q D S0 3 bc bs (JX1_newBook this p1 Qj) 0 [some (.ref this), some (.int p1), none] [] := by
  unfold JX1_newBook
  refine jr_aload_n K dX1_newBook_0 rfl ?_
  refine jr_getA K gf_X1_19 dX1_newBook_1 (fun v1 => ?_)
  refine jr_getA K gf_X1_99 dX1_newBook_4 (fun v4 => ?_)
  refine jr_aload_n K dX1_newBook_7 rfl ?_
  refine jr_getA K gf_X1_19 dX1_newBook_8 (fun v8 => ?_)
  refine jr_getI K gf_X1_96 dX1_newBook_11 (fun v11 => ?_)
  refine jr_aald K (by decide) dX1_newBook_14 (fun v14 => ?_)
  refine jr_astore_n K (L' := [some (.ref this), some (.int p1), some (.ref v14)]) dX1_newBook_15 (by decide) rfl rfl ?_
  refine jr_aload_n K dX1_newBook_16 rfl ?_
  refine jr_iload_n K dX1_newBook_17 rfl ?_
  refine jr_put K pf_X1_182 dX1_newBook_18 rfl rfl ?_
  refine jr_aload_n K dX1_newBook_21 rfl ?_
  refine jr_iconst K dX1_newBook_22 (v := (nI 0)) (by decide) ?_
  refine jr_put K pf_X1_107 dX1_newBook_23 rfl rfl ?_
  refine jr_aload_n K dX1_newBook_26 rfl ?_
  refine jr_getA K gf_X1_19 dX1_newBook_27 (fun v27 => ?_)
  refine jr_dup K dX1_newBook_30 rfl ?_
  refine jr_getI K gf_X1_96 dX1_newBook_31 (fun v31 => ?_)
  refine jr_iconst K dX1_newBook_34 (v := (nI 1)) (by decide) ?_
  refine jr_iadd K dX1_newBook_35 ?_
  refine jr_put K pf_X1_96 dX1_newBook_36 rfl rfl ?_
  refine jr_aload_n K dX1_newBook_39 rfl ?_
  refine jr_iconst K dX1_newBook_40 (v := (nI 0)) (by decide) ?_
  refine jr_putZ K pf_X1_174 dX1_newBook_41 ?_
  refine jr_aload_n K dX1_newBook_44 rfl ?_
  refine jr_getA K gf_X1_19 dX1_newBook_45 (fun v45 => ?_)
  refine jr_getI K gf_X1_96 dX1_newBook_48 (fun v48 => ?_)
  refine jr_iconst K dX1_newBook_51 (v := (nI 1)) (by decide) ?_
  refine jr_isub K dX1_newBook_52 ?_
  exact hret _ _ _ _ _ dX1_newBook_53
theorem metX1_newBook (hG : jG l D S0 A0) (this : Nat) (p1 : Int32) (Qj : Int32 → JP) : Met l yX1_newBook (ws_ yX1_newBook cX1_newBook 3 (some .int)) (jrm 12 0 0) (va_Pc [.ref this, .int p1] (jB D S0 (JX1_newBook this p1 Qj))) (va_Qi Qj (fun σ t => jRep D S0.heap.size σ t.heap) (jA S0)) 0 0 (jA S0) :=
  jr_start hG (by decide) (Nat.le_of_ble_eq_true rfl) rfl fun p e s m below meth c K hr hn => wX1_newBook K _ _ this p1 Qj (fun _ _ _ _ _ d => jr_iret K hr rfl d)
theorem wX1_book (K : JK p l R s m args meth c D S0 A0 2 cX1_book "MoveNotes" 13) (bc : Nat) (bs : Nat) (this : Nat) (p1 : Int32) (Ex : Nat → Nat → JP) (Qj : Int32 → JP) (hEx : jThr p l e R s m args below meth c Q D S0 2 cX1_book "MoveNotes" [] Ex) (hret : jRetI p l e R s m args below meth c Q D S0 2 cX1_book Qj) : JR p l e R s m args below meth c Q D S0 2 bc bs (JX1_book bc bs this p1 Ex Qj) 0 [some (.ref this), some (.int p1)] [] := by
  unfold JX1_book
  refine jr_iload_n K dX1_book_0 rfl ?_
  refine jr_iconst K dX1_book_1 (v := (nI 0)) (by decide) ?_
  refine jr_iconst K dX1_book_2 (v := (nI 1)) (by decide) ?_
  refine jr_calli0 (jrun_S (As := [.int p1, .int (nI 0), .int (nI 1)]) (st := []) K (metX1_isIn K.hG p1 (nI 0) (nI 1) _) mtX1_isIn q586 q585 rfl rfl (Nat.le_of_ble_eq_true rfl) (by decide) ⟨Nat.zero_le _, Nat.zero_le _⟩ dX1_book_3) (fun v3 => ?_)
  refine jr_bud (fun mc6 ms6 hmc6 hms6 => ?_)
  refine jrx_callv ⟨hmc6, hms6⟩ (jrunx_S (As := [.int v3]) (st := []) K (metX1_must K.hG mc6 ms6 v3 Ex _) mtX1_must q1108 q1107 rfl rfl (Nat.le_of_ble_eq_true rfl) (by decide) ⟨hmc6, hms6⟩ dX1_book_6) (fun x q => hEx.1 _ _ _ _ x q (fun _ h => nomatch h)) ?_
  refine jr_aload_n K dX1_book_9 rfl ?_
  refine jr_getA K gf_X1_19 dX1_book_10 (fun v10 => ?_)
  refine jr_getI K gf_X1_96 dX1_book_13 (fun v13 => ?_)
  refine jr_iconst K dX1_book_16 (v := (nI 3)) (by decide) ?_
  refine jr_join (fun (k25 : Int32 → JP) => ∀ (s0_25 : Int32), JR p l e R s m args below meth c Q D S0 2 (bc - mc6) (bs - ms6) (k25 s0_25) 25 [some (.ref this), some (.int p1)] [.int s0_25]) ?_ (fun k25 hk25 => ?_)
  · intro s0_25
    refine jr_bud (fun mc25 ms25 hmc25 hms25 => ?_)
    refine jrx_callv ⟨hmc25, hms25⟩ (jrunx_S (As := [.int s0_25]) (st := []) K (metX1_mayBe K.hG mc25 ms25 s0_25 Ex _) mtX1_mayBe q1111 q1110 rfl rfl (Nat.le_of_ble_eq_true rfl) (by decide) ⟨hmc25, hms25⟩ dX1_book_25) (fun x q => hEx.1 _ _ _ _ x q (fun _ h => nomatch h)) ?_
    refine jr_aload_n K dX1_book_28 rfl ?_
    refine jr_iload_n K dX1_book_29 rfl ?_
    refine jr_calli0 (jrun_V (As := [.int p1]) (st := []) (ci := 1) K (metX1_newBook K.hG this p1 _) mtX1_newBook mvX1_newBook q1231 rfl rfl rfl (Nat.le_of_ble_eq_true rfl) (by decide) ⟨Nat.zero_le _, Nat.zero_le _⟩ dX1_book_30) (fun v30 => ?_)
    exact hret _ _ _ _ _ dX1_book_33
  refine jr_icmp_ge K (tgt := 24) dX1_book_17 (by decide) ?_ ?_
  · refine jr_iconst K dX1_book_24 (v := (nI 0)) (by decide) ?_
    exact jr_weak (hk25 (nI 0)) ⟨rfl, rfl, trivial⟩
  · refine jr_iconst K dX1_book_20 (v := (nI 1)) (by decide) ?_
    refine jr_goto K (tgt := 25) dX1_book_21 (by decide) ?_
    exact jr_weak (hk25 (nI 1)) ⟨rfl, rfl, trivial⟩
theorem metX1_book (hG : jG l D S0 A0) (bc : Nat) (bs : Nat) (this : Nat) (p1 : Int32) (Ex : Nat → Nat → JP) (Qj : Int32 → JP) : vx_Met l yX1_book (ws_ yX1_book cX1_book 2 (some .int)) (jrm 13 bc bs) (va_Pc [.ref this, .int p1] (jB D S0 (JX1_book bc bs this p1 Ex Qj))) (va_Qi Qj (fun σ t => jRep D S0.heap.size σ t.heap) (jA S0)) (jXC D S0 Ex) bc bs (jA S0) :=
  jx_start hG (by decide) (by decide) (Nat.le_of_ble_eq_true rfl) rfl fun p e s m below meth c K hr hEx => wX1_book K bc bs this p1 Ex Qj hEx (fun _ _ _ _ _ d => jr_xret jx_mq (jr_iret K hr rfl d))
theorem wX0_book (K : JK p l R s m args meth c D S0 A0 4 cX0_book "MoveNotesLaw" 14) (htb : c.exceptionTable.toList = tableOf [(0, 9, 12, 13), (0, 9, 15, 15)]) (bc : Nat) (bs : Nat) (p0 : Nat) (p1 : Int32) (p2 : Nat) (Qj : Int32 → JP) (hret : jRetI p l e R s m args below meth c Q D S0 4 cX0_book Qj) : JR p l e R s m args below meth c Q D S0 4 bc bs (JX0_book bc bs p0 p1 p2 Qj) 0 [some (.ref p0), some (.int p1), some (.ref p2), none] [] := by
  unfold JX0_book
  refine jr_aload_n K dX0_book_0 rfl ?_
  refine jr_iconst K dX0_book_1 (v := (nI 0)) (by decide) ?_
  refine jr_aload_n K dX0_book_2 rfl ?_
  refine jr_iload_n K dX0_book_3 rfl ?_
  refine jr_bud (fun mc4 ms4 hmc4 hms4 => ?_)
  refine jrx_calli ⟨hmc4, hms4⟩ (jrunx_V (As := [.int p1]) (st := [.int (nI 0), .ref p2]) (ci := 1) K (metX1_book K.hG mc4 ms4 p0 p1 _ _) mtX1_book mvX1_book q1227 rfl rfl rfl (Nat.le_of_ble_eq_true rfl) (by decide) ⟨hmc4, hms4⟩ dX0_book_4) (fun xx4 xq4 => ?_) (fun v4 => ?_)
  · refine jt_if (fun hx0 => ?_) (fun hx0 => ?_)
    · subst hx0
      refine jt_catch0 K htb rfl (by decide) (by decide) q831 q1088 ?_
      refine jr_astore_n K (L' := [some (.ref p0), some (.int p1), some (.ref p2), some (.ref xq4)]) dX0_book_12 (by decide) rfl rfl ?_
      refine jr_iconst K dX0_book_13 (v := (nI 1)) (by decide) ?_
      exact hret _ _ _ _ _ dX0_book_14
    refine jt_if (fun hx1 => ?_) (fun hx1 => ?_)
    · subst hx1
      refine jt_catch1 K htb rfl (by decide) (by decide) q831 (by decide) (jncast K (by decide +kernel)) q832 q1115 ?_
      refine jr_astore_n K (L' := [some (.ref p0), some (.int p1), some (.ref p2), some (.ref xq4)]) dX0_book_15 (by decide) rfl rfl ?_
      refine jr_iconst K dX0_book_16 (v := (nI 2)) (by decide) ?_
      exact hret _ _ _ _ _ dX0_book_17
    exact JT.bot
  refine jr_i2l K dX0_book_7 ?_
  refine jr_last K dX0_book_8 ?_
  refine jr_goto K (tgt := 18) dX0_book_9 (by decide) ?_
  refine jr_iconst K dX0_book_18 (v := (nI 0)) (by decide) ?_
  exact hret _ _ _ _ _ dX0_book_19
theorem metX0_book (hG : jG l D S0 A0) (bc : Nat) (bs : Nat) (p0 : Nat) (p1 : Int32) (p2 : Nat) (Qj : Int32 → JP) : Met l yX0_book (wsW_ yX0_book cX0_book 4 (some .int) [(0, 9, 12, 13), (0, 9, 15, 15)]) (jrm 14 bc bs) (va_Pc [.ref p0, .int p1, .ref p2] (jB D S0 (JX0_book bc bs p0 p1 p2 Qj))) (va_Qi Qj (fun σ t => jRep D S0.heap.size σ t.heap) (jA S0)) bc bs (jA S0) :=
  jr_startW hG (by decide) (Nat.le_of_ble_eq_true rfl) rfl fun p e s m below meth c K hr hn htb => wX0_book K htb bc bs p0 p1 p2 Qj (fun _ _ _ _ _ d => jr_iret K hr rfl d)
theorem wX1_bookAt (K : JK p l R s m args meth c D S0 A0 2 cX1_bookAt "MoveNotes" 13) (bc : Nat) (bs : Nat) (this : Nat) (p1 : Int32) (Ex : Nat → Nat → JP) (Qj : Nat → JP) (hEx : jThr p l e R s m args below meth c Q D S0 2 cX1_bookAt "MoveNotes" [] Ex) (hret : jRetA p l e R s m args below meth c Q D S0 2 cX1_bookAt Qj) : JR p l e R s m args below meth c Q D S0 2 bc bs (JX1_bookAt bc bs this p1 Ex Qj) 0 [some (.ref this), some (.int p1)] [] := by
  unfold JX1_bookAt
  refine jr_iload_n K dX1_bookAt_0 rfl ?_
  refine jr_iconst K dX1_bookAt_1 (v := (nI 0)) (by decide) ?_
  refine jr_aload_n K dX1_bookAt_2 rfl ?_
  refine jr_getA K gf_X1_19 dX1_bookAt_3 (fun v3 => ?_)
  refine jr_getI K gf_X1_96 dX1_bookAt_6 (fun v6 => ?_)
  refine jr_iconst K dX1_bookAt_9 (v := (nI 1)) (by decide) ?_
  refine jr_isub K dX1_bookAt_10 ?_
  refine jr_calli0 (jrun_S (As := [.int p1, .int (nI 0), .int (v6 - (nI 1))]) (st := []) K (metX1_isIn K.hG p1 (nI 0) (v6 - (nI 1)) _) mtX1_isIn q586 q585 rfl rfl (Nat.le_of_ble_eq_true rfl) (by decide) ⟨Nat.zero_le _, Nat.zero_le _⟩ dX1_bookAt_11) (fun v11 => ?_)
  refine jr_bud (fun mc14 ms14 hmc14 hms14 => ?_)
  refine jrx_callv ⟨hmc14, hms14⟩ (jrunx_S (As := [.int v11]) (st := []) K (metX1_mustBe K.hG mc14 ms14 v11 Ex _) mtX1_mustBe q1195 q1194 rfl rfl (Nat.le_of_ble_eq_true rfl) (by decide) ⟨hmc14, hms14⟩ dX1_bookAt_14) (fun x q => hEx.1 _ _ _ _ x q (fun _ h => nomatch h)) ?_
  refine jr_aload_n K dX1_bookAt_17 rfl ?_
  refine jr_getA K gf_X1_19 dX1_bookAt_18 (fun v18 => ?_)
  refine jr_getA K gf_X1_99 dX1_bookAt_21 (fun v21 => ?_)
  refine jr_iload_n K dX1_bookAt_24 rfl ?_
  refine jr_aald K (by decide) dX1_bookAt_25 (fun v25 => ?_)
  exact hret _ _ _ _ _ dX1_bookAt_26
theorem metX1_bookAt (hG : jG l D S0 A0) (bc : Nat) (bs : Nat) (this : Nat) (p1 : Int32) (Ex : Nat → Nat → JP) (Qj : Nat → JP) : vx_Met l yX1_bookAt (ws_ yX1_bookAt cX1_bookAt 2 (some (.object "MoveNotes$Book"))) (jrm 13 bc bs) (va_Pc [.ref this, .int p1] (jB D S0 (JX1_bookAt bc bs this p1 Ex Qj))) (jQr Qj D S0) (jXC D S0 Ex) bc bs (jA S0) :=
  jx_start hG (by decide) (by decide) (Nat.le_of_ble_eq_true rfl) rfl fun p e s m below meth c K hr hEx => wX1_bookAt K bc bs this p1 Ex Qj hEx (fun _ _ _ _ _ d => jr_xret jx_mq (jr_aret K hr (Or.inl ⟨_, rfl⟩) d))
theorem wX1_isNoted (K : JK p l R s m args meth c D S0 A0 3 cX1_isNoted "MoveNotes" 13) (bc : Nat) (bs : Nat) (p0 : Int32) (p1 : Int32) (p2 : Int32) (Ex : Nat → Nat → JP) (Qj : JP) (hEx : jThr p l e R s m args below meth c Q D S0 3 cX1_isNoted "MoveNotes" [] Ex) (hret : jRetV p l e R s m args below meth c Q D S0 3 cX1_isNoted Qj) : JR p l e R s m args below meth c Q D S0 3 bc bs (JX1_isNoted bc bs p0 p1 p2 Ex Qj) 0 [some (.int p0), some (.int p1), some (.int p2)] [] := by
  unfold JX1_isNoted
  refine jr_iload_n K dX1_isNoted_0 rfl ?_
  refine jr_iconst K dX1_isNoted_1 (v := (-1)) (by decide) ?_
  refine jr_iconst K dX1_isNoted_2 (v := (nI 5)) (by decide) ?_
  refine jr_calli0 (jrun_S (As := [.int p0, .int (-1), .int (nI 5)]) (st := []) K (metX1_isIn K.hG p0 (-1) (nI 5) _) mtX1_isIn q586 q585 rfl rfl (Nat.le_of_ble_eq_true rfl) (by decide) ⟨Nat.zero_le _, Nat.zero_le _⟩ dX1_isNoted_3) (fun v3 => ?_)
  refine jr_join (fun (k31 : JP) => JR p l e R s m args below meth c Q D S0 3 bc bs k31 31 [none, none, none] []) ?_ (fun k31 hk31 => ?_)
  · refine jr_iconst K dX1_isNoted_31 (v := (nI 0)) (by decide) ?_
    refine jr_bud (fun mc32 ms32 hmc32 hms32 => ?_)
    refine jrx_callv ⟨hmc32, hms32⟩ (jrunx_S (As := [.int (nI 0)]) (st := []) K (metX1_must K.hG mc32 ms32 (nI 0) Ex _) mtX1_must q1108 q1107 rfl rfl (Nat.le_of_ble_eq_true rfl) (by decide) ⟨hmc32, hms32⟩ dX1_isNoted_32) (fun x q => hEx.1 _ _ _ _ x q (fun _ h => nomatch h)) ?_
    exact hret _ _ _ _ dX1_isNoted_35
  refine jr_if_eq K (tgt := 31) dX1_isNoted_6 (by decide) ?_ ?_
  · exact jr_weak (hk31) trivial
  · refine jr_iload_n K dX1_isNoted_9 rfl ?_
    refine jr_iconst K dX1_isNoted_10 (v := (nI 0)) (by decide) ?_
    refine jr_iconst K dX1_isNoted_11 (v := (nI 5)) (by decide) ?_
    refine jr_calli0 (jrun_S (As := [.int p1, .int (nI 0), .int (nI 5)]) (st := []) K (metX1_isIn K.hG p1 (nI 0) (nI 5) _) mtX1_isIn q586 q585 rfl rfl (Nat.le_of_ble_eq_true rfl) (by decide) ⟨Nat.zero_le _, Nat.zero_le _⟩ dX1_isNoted_12) (fun v12 => ?_)
    refine jr_if_eq K (tgt := 31) dX1_isNoted_15 (by decide) ?_ ?_
    · exact jr_weak (hk31) trivial
    · refine jr_iload_n K dX1_isNoted_18 rfl ?_
      refine jr_iconst K dX1_isNoted_19 (v := (nI 0)) (by decide) ?_
      refine jr_iconst K dX1_isNoted_20 (v := (nI 5)) (by decide) ?_
      refine jr_calli0 (jrun_S (As := [.int p2, .int (nI 0), .int (nI 5)]) (st := []) K (metX1_isIn K.hG p2 (nI 0) (nI 5) _) mtX1_isIn q586 q585 rfl rfl (Nat.le_of_ble_eq_true rfl) (by decide) ⟨Nat.zero_le _, Nat.zero_le _⟩ dX1_isNoted_21) (fun v21 => ?_)
      refine jr_if_eq K (tgt := 31) dX1_isNoted_24 (by decide) ?_ ?_
      · exact jr_weak (hk31) trivial
      · refine jr_iconst K dX1_isNoted_27 (v := (nI 1)) (by decide) ?_
        refine jr_goto K (tgt := 32) dX1_isNoted_28 (by decide) ?_
        refine jr_bud (fun mc32 ms32 hmc32 hms32 => ?_)
        refine jrx_callv ⟨hmc32, hms32⟩ (jrunx_S (As := [.int (nI 1)]) (st := []) K (metX1_must K.hG mc32 ms32 (nI 1) Ex _) mtX1_must q1108 q1107 rfl rfl (Nat.le_of_ble_eq_true rfl) (by decide) ⟨hmc32, hms32⟩ dX1_isNoted_32) (fun x q => hEx.1 _ _ _ _ x q (fun _ h => nomatch h)) ?_
        exact hret _ _ _ _ dX1_isNoted_35
theorem metX1_isNoted (hG : jG l D S0 A0) (bc : Nat) (bs : Nat) (p0 : Int32) (p1 : Int32) (p2 : Int32) (Ex : Nat → Nat → JP) (Qj : JP) : vx_Met l yX1_isNoted (ws_ yX1_isNoted cX1_isNoted 3 none) (jrm 13 bc bs) (va_Pc [.int p0, .int p1, .int p2] (jB D S0 (JX1_isNoted bc bs p0 p1 p2 Ex Qj))) (va_Qv Qj (fun σ t => jRep D S0.heap.size σ t.heap) (jA S0)) (jXC D S0 Ex) bc bs (jA S0) :=
  jx_start hG (by decide) (by decide) (Nat.le_of_ble_eq_true rfl) rfl fun p e s m below meth c K hr hEx => wX1_isNoted K bc bs p0 p1 p2 Ex Qj hEx (fun _ _ _ _ d => jr_xret jx_mq (jr_vret K hr d))
theorem wX1_note (K : JK p l R s m args meth c D S0 A0 7 cX1_note "MoveNotes" 14) (bc : Nat) (bs : Nat) (this : Nat) (p1 : Int32) (p2 : Int32) (p3 : Int32) (p4 : Int32) (p5 : Int32) (Ex : Nat → Nat → JP) (Qj : Int32 → JP) (hEx : jThr p l e R s m args below meth c Q D S0 7 cX1_note "MoveNotes" [] Ex) (hret : jRetI p l e R s m args below meth c Q D S0 7 cX1_note Qj) : JR p l e R s m args below meth c Q D S0 7 bc bs (JX1_note bc bs this p1 p2 p3 p4 p5 Ex Qj) 0 [some (.ref this), some (.int p1), some (.int p2), some (.int p3), some (.int p4), some (.int p5), none] [] := by
  unfold JX1_note
  refine jr_aload_n K dX1_note_0 rfl ?_
  refine jr_iload_n K dX1_note_1 rfl ?_
  refine jr_bud (fun mc2 ms2 hmc2 hms2 => ?_)
  refine jrx_callr ⟨hmc2, hms2⟩ (jrunx_V (As := [.int p1]) (st := []) (ci := 1) K (metX1_bookAt K.hG mc2 ms2 this p1 Ex _) mtX1_bookAt mvX1_bookAt q1242 rfl rfl rfl (Nat.le_of_ble_eq_true rfl) (by decide) ⟨hmc2, hms2⟩ dX1_note_2) (fun x q => hEx.1 _ _ _ _ x q (fun _ h => nomatch h)) (fun v2 => ?_)
  refine jr_astore K (L' := [some (.ref this), some (.int p1), some (.int p2), some (.int p3), some (.int p4), some (.int p5), some (.ref v2)]) dX1_note_5 (by decide) rfl rfl ?_
  refine jr_aload_n K dX1_note_7 rfl ?_
  refine jr_iload_n K dX1_note_8 rfl ?_
  refine jr_iconst K dX1_note_9 (v := (nI 0)) (by decide) ?_
  refine jr_bud (fun mc10 ms10 hmc10 hms10 => ?_)
  refine jrx_callv ⟨hmc10, hms10⟩ (jrunx_V (As := [.int p2, .int (nI 0)]) (st := []) (ci := 1) K (metX1_isKind K.hG mc10 ms10 this p2 (nI 0) Ex _) mtX1_isKind mvX1_isKind q1212 rfl rfl rfl (Nat.le_of_ble_eq_true rfl) (by decide) ⟨hmc10, hms10⟩ dX1_note_10) (fun x q => hEx.1 _ _ _ _ x q (fun _ h => nomatch h)) ?_
  refine jr_iload_n K dX1_note_13 rfl ?_
  refine jr_iload K dX1_note_14 rfl ?_
  refine jr_iload K dX1_note_16 rfl ?_
  refine jr_bud (fun mc18 ms18 hmc18 hms18 => ?_)
  refine jrx_callv ⟨hmc18, hms18⟩ (jrunx_S (As := [.int p3, .int p4, .int p5]) (st := []) K (metX1_isNoted K.hG mc18 ms18 p3 p4 p5 Ex _) mtX1_isNoted q1247 q1246 rfl rfl (Nat.le_of_ble_eq_true rfl) (by decide) ⟨hmc18, hms18⟩ dX1_note_18) (fun x q => hEx.1 _ _ _ _ x q (fun _ h => nomatch h)) ?_
  refine jr_aload K dX1_note_21 rfl ?_
  refine jr_getI K gf_X1_107 dX1_note_23 (fun v23 => ?_)
  refine jr_bipush K dX1_note_26 (v := (nI 24)) (by decide) ?_
  refine jr_join (fun (k36 : Int32 → JP) => ∀ (s0_36 : Int32), JR p l e R s m args below meth c Q D S0 7 (((bc - mc2) - mc10) - mc18) (((bs - ms2) - ms10) - ms18) (k36 s0_36) 36 [some (.ref this), none, some (.int p2), some (.int p3), some (.int p4), some (.int p5), some (.ref v2)] [.int s0_36]) ?_ (fun k36 hk36 => ?_)
  · intro s0_36
    refine jr_bud (fun mc36 ms36 hmc36 hms36 => ?_)
    refine jrx_callv ⟨hmc36, hms36⟩ (jrunx_S (As := [.int s0_36]) (st := []) K (metX1_mayBe K.hG mc36 ms36 s0_36 Ex _) mtX1_mayBe q1111 q1110 rfl rfl (Nat.le_of_ble_eq_true rfl) (by decide) ⟨hmc36, hms36⟩ dX1_note_36) (fun x q => hEx.1 _ _ _ _ x q (fun _ h => nomatch h)) ?_
    refine jr_aload K dX1_note_39 rfl ?_
    refine jr_getA K gf_X1_193 dX1_note_41 (fun v41 => ?_)
    refine jr_aload K dX1_note_44 rfl ?_
    refine jr_getI K gf_X1_107 dX1_note_46 (fun v46 => ?_)
    refine jr_new K in_X23 rfl tyX23_ok dfo23 q1249 q1250 q134 dX1_note_49 (fun v49 => ?_)
    refine jr_dup K dX1_note_52 rfl ?_
    refine jr_iload_n K dX1_note_53 rfl ?_
    refine jr_iload_n K dX1_note_54 rfl ?_
    refine jr_iload K dX1_note_55 rfl ?_
    refine jr_iload K dX1_note_57 rfl ?_
    refine jr_callv0 (jrun_I (As := [.int p2, .int p3, .int p4, .int p5]) (st := [.ref v49, .int v46, .ref v41]) K (metX23_init K.hG v49 p2 p3 p4 p5 _) mtX23_init q1252 rfl q1251 rfl rfl (Nat.le_of_ble_eq_true rfl) (by decide) ⟨Nat.zero_le _, Nat.zero_le _⟩ dX1_note_59) ?_
    refine jr_aast K (by decide) jfit_10_23 dX1_note_62 ?_
    refine jr_aload K dX1_note_63 rfl ?_
    refine jr_dup K dX1_note_65 rfl ?_
    refine jr_getI K gf_X1_107 dX1_note_66 (fun v66 => ?_)
    refine jr_iconst K dX1_note_69 (v := (nI 1)) (by decide) ?_
    refine jr_iadd K dX1_note_70 ?_
    refine jr_put K pf_X1_107 dX1_note_71 rfl rfl ?_
    refine jr_aload_n K dX1_note_74 rfl ?_
    refine jr_iconst K dX1_note_75 (v := (nI 0)) (by decide) ?_
    refine jr_putZ K pf_X1_174 dX1_note_76 ?_
    refine jr_aload K dX1_note_79 rfl ?_
    refine jr_getI K gf_X1_107 dX1_note_81 (fun v81 => ?_)
    refine jr_iconst K dX1_note_84 (v := (nI 1)) (by decide) ?_
    refine jr_isub K dX1_note_85 ?_
    exact hret _ _ _ _ _ dX1_note_86
  refine jr_icmp_ge K (tgt := 35) dX1_note_28 (by decide) ?_ ?_
  · refine jr_iconst K dX1_note_35 (v := (nI 0)) (by decide) ?_
    exact jr_weak (hk36 (nI 0)) ⟨rfl, rfl, rfl, rfl, rfl, rfl, trivial⟩
  · refine jr_iconst K dX1_note_31 (v := (nI 1)) (by decide) ?_
    refine jr_goto K (tgt := 36) dX1_note_32 (by decide) ?_
    exact jr_weak (hk36 (nI 1)) ⟨rfl, rfl, rfl, rfl, rfl, rfl, trivial⟩
theorem metX1_note (hG : jG l D S0 A0) (bc : Nat) (bs : Nat) (this : Nat) (p1 : Int32) (p2 : Int32) (p3 : Int32) (p4 : Int32) (p5 : Int32) (Ex : Nat → Nat → JP) (Qj : Int32 → JP) : vx_Met l yX1_note (ws_ yX1_note cX1_note 7 (some .int)) (jrm 14 bc bs) (va_Pc [.ref this, .int p1, .int p2, .int p3, .int p4, .int p5] (jB D S0 (JX1_note bc bs this p1 p2 p3 p4 p5 Ex Qj))) (va_Qi Qj (fun σ t => jRep D S0.heap.size σ t.heap) (jA S0)) (jXC D S0 Ex) bc bs (jA S0) :=
  jx_start hG (by decide) (by decide) (Nat.le_of_ble_eq_true rfl) rfl fun p e s m below meth c K hr hEx => wX1_note K bc bs this p1 p2 p3 p4 p5 Ex Qj hEx (fun _ _ _ _ _ d => jr_xret jx_mq (jr_iret K hr rfl d))
theorem wX0_note (K : JK p l R s m args meth c D S0 A0 8 cX0_note "MoveNotesLaw" 15) (htb : c.exceptionTable.toList = tableOf [(0, 16, 19, 25), (0, 16, 23, 13), (0, 16, 27, 15)]) (bc : Nat) (bs : Nat) (p0 : Nat) (p1 : Int32) (p2 : Int32) (p3 : Int32) (p4 : Int32) (p5 : Int32) (p6 : Nat) (Qj : Int32 → JP) (hret : jRetI p l e R s m args below meth c Q D S0 8 cX0_note Qj) : JR p l e R s m args below meth c Q D S0 8 bc bs (JX0_note bc bs p0 p1 p2 p3 p4 p5 p6 Qj) 0 [some (.ref p0), some (.int p1), some (.int p2), some (.int p3), some (.int p4), some (.int p5), some (.ref p6), none] [] := by
  unfold JX0_note
  refine jr_aload K dX0_note_0 rfl ?_
  refine jr_iconst K dX0_note_2 (v := (nI 0)) (by decide) ?_
  refine jr_aload_n K dX0_note_3 rfl ?_
  refine jr_iload_n K dX0_note_4 rfl ?_
  refine jr_iload_n K dX0_note_5 rfl ?_
  refine jr_iload_n K dX0_note_6 rfl ?_
  refine jr_iload K dX0_note_7 rfl ?_
  refine jr_iload K dX0_note_9 rfl ?_
  refine jr_bud (fun mc11 ms11 hmc11 hms11 => ?_)
  refine jrx_calli ⟨hmc11, hms11⟩ (jrunx_V (As := [.int p1, .int p2, .int p3, .int p4, .int p5]) (st := [.int (nI 0), .ref p6]) (ci := 1) K (metX1_note K.hG mc11 ms11 p0 p1 p2 p3 p4 p5 _ _) mtX1_note mvX1_note q1238 rfl rfl rfl (Nat.le_of_ble_eq_true rfl) (by decide) ⟨hmc11, hms11⟩ dX0_note_11) (fun xx11 xq11 => ?_) (fun v11 => ?_)
  · refine jt_if (fun hx0 => ?_) (fun hx0 => ?_)
    · subst hx0
      refine jt_catch0 K htb rfl (by decide) (by decide) q1155 q1199 ?_
      refine jr_astore K (L' := [some (.ref p0), some (.int p1), some (.int p2), some (.int p3), some (.int p4), some (.int p5), some (.ref p6), some (.ref xq11)]) dX0_note_19 (by decide) rfl rfl ?_
      refine jr_iconst K dX0_note_21 (v := (nI 1)) (by decide) ?_
      exact hret _ _ _ _ _ dX0_note_22
    refine jt_if (fun hx1 => ?_) (fun hx1 => ?_)
    · subst hx1
      refine jt_catch1 K htb rfl (by decide) (by decide) q1155 (by decide) (jncast K (by decide +kernel)) q831 q1088 ?_
      refine jr_astore K (L' := [some (.ref p0), some (.int p1), some (.int p2), some (.int p3), some (.int p4), some (.int p5), some (.ref p6), some (.ref xq11)]) dX0_note_23 (by decide) rfl rfl ?_
      refine jr_iconst K dX0_note_25 (v := (nI 2)) (by decide) ?_
      exact hret _ _ _ _ _ dX0_note_26
    refine jt_if (fun hx2 => ?_) (fun hx2 => ?_)
    · subst hx2
      refine jt_catch2 K htb rfl (by decide) (by decide) q1155 (by decide) (jncast K (by decide +kernel)) q831 (by decide) (jncast K (by decide +kernel)) q832 q1115 ?_
      refine jr_astore K (L' := [some (.ref p0), some (.int p1), some (.int p2), some (.int p3), some (.int p4), some (.int p5), some (.ref p6), some (.ref xq11)]) dX0_note_27 (by decide) rfl rfl ?_
      refine jr_iconst K dX0_note_29 (v := (nI 3)) (by decide) ?_
      exact hret _ _ _ _ _ dX0_note_30
    exact JT.bot
  refine jr_i2l K dX0_note_14 ?_
  refine jr_last K dX0_note_15 ?_
  refine jr_goto K (tgt := 31) dX0_note_16 (by decide) ?_
  refine jr_iconst K dX0_note_31 (v := (nI 0)) (by decide) ?_
  exact hret _ _ _ _ _ dX0_note_32
theorem metX0_note (hG : jG l D S0 A0) (bc : Nat) (bs : Nat) (p0 : Nat) (p1 : Int32) (p2 : Int32) (p3 : Int32) (p4 : Int32) (p5 : Int32) (p6 : Nat) (Qj : Int32 → JP) : Met l yX0_note (wsW_ yX0_note cX0_note 8 (some .int) [(0, 16, 19, 25), (0, 16, 23, 13), (0, 16, 27, 15)]) (jrm 15 bc bs) (va_Pc [.ref p0, .int p1, .int p2, .int p3, .int p4, .int p5, .ref p6] (jB D S0 (JX0_note bc bs p0 p1 p2 p3 p4 p5 p6 Qj))) (va_Qi Qj (fun σ t => jRep D S0.heap.size σ t.heap) (jA S0)) bc bs (jA S0) :=
  jr_startW hG (by decide) (Nat.le_of_ble_eq_true rfl) rfl fun p e s m below meth c K hr hn htb => wX0_note K htb bc bs p0 p1 p2 p3 p4 p5 p6 Qj (fun _ _ _ _ _ d => jr_iret K hr rfl d)
theorem wX1_isNote (K : JK p l R s m args meth c D S0 A0 3 cX1_isNote "MoveNotes" 14) (bc : Nat) (bs : Nat) (this : Nat) (p1 : Int32) (p2 : Int32) (Ex : Nat → Nat → JP) (Qj : JP) (hEx : jThr p l e R s m args below meth c Q D S0 3 cX1_isNote "MoveNotes" [] Ex) (hret : jRetV p l e R s m args below meth c Q D S0 3 cX1_isNote Qj) : JR p l e R s m args below meth c Q D S0 3 bc bs (JX1_isNote bc bs this p1 p2 Ex Qj) 0 [some (.ref this), some (.int p1), some (.int p2)] [] := by
  unfold JX1_isNote
  refine jr_iload_n K dX1_isNote_0 rfl ?_
  refine jr_iconst K dX1_isNote_1 (v := (nI 0)) (by decide) ?_
  refine jr_aload_n K dX1_isNote_2 rfl ?_
  refine jr_iload_n K dX1_isNote_3 rfl ?_
  refine jr_bud (fun mc4 ms4 hmc4 hms4 => ?_)
  refine jrx_callr ⟨hmc4, hms4⟩ (jrunx_V (As := [.int p1]) (st := [.int (nI 0), .int p2]) (ci := 1) K (metX1_bookAt K.hG mc4 ms4 this p1 Ex _) mtX1_bookAt mvX1_bookAt q1242 rfl rfl rfl (Nat.le_of_ble_eq_true rfl) (by decide) ⟨hmc4, hms4⟩ dX1_isNote_4) (fun x q => hEx.1 _ _ _ _ x q (fun _ h => nomatch h)) (fun v4 => ?_)
  refine jr_getI K gf_X1_107 dX1_isNote_7 (fun v7 => ?_)
  refine jr_iconst K dX1_isNote_10 (v := (nI 1)) (by decide) ?_
  refine jr_isub K dX1_isNote_11 ?_
  refine jr_calli0 (jrun_S (As := [.int p2, .int (nI 0), .int (v7 - (nI 1))]) (st := []) K (metX1_isIn K.hG p2 (nI 0) (v7 - (nI 1)) _) mtX1_isIn q586 q585 rfl rfl (Nat.le_of_ble_eq_true rfl) (by decide) ⟨Nat.zero_le _, Nat.zero_le _⟩ dX1_isNote_12) (fun v12 => ?_)
  refine jr_bud (fun mc15 ms15 hmc15 hms15 => ?_)
  refine jrx_callv ⟨hmc15, hms15⟩ (jrunx_S (As := [.int v12]) (st := []) K (metX1_mustBe K.hG mc15 ms15 v12 Ex _) mtX1_mustBe q1195 q1194 rfl rfl (Nat.le_of_ble_eq_true rfl) (by decide) ⟨hmc15, hms15⟩ dX1_isNote_15) (fun x q => hEx.1 _ _ _ _ x q (fun _ h => nomatch h)) ?_
  exact hret _ _ _ _ dX1_isNote_18
theorem metX1_isNote (hG : jG l D S0 A0) (bc : Nat) (bs : Nat) (this : Nat) (p1 : Int32) (p2 : Int32) (Ex : Nat → Nat → JP) (Qj : JP) : vx_Met l yX1_isNote (ws_ yX1_isNote cX1_isNote 3 none) (jrm 14 bc bs) (va_Pc [.ref this, .int p1, .int p2] (jB D S0 (JX1_isNote bc bs this p1 p2 Ex Qj))) (va_Qv Qj (fun σ t => jRep D S0.heap.size σ t.heap) (jA S0)) (jXC D S0 Ex) bc bs (jA S0) :=
  jx_start hG (by decide) (by decide) (Nat.le_of_ble_eq_true rfl) rfl fun p e s m below meth c K hr hEx => wX1_isNote K bc bs this p1 p2 Ex Qj hEx (fun _ _ _ _ d => jr_xret jx_mq (jr_vret K hr d))
theorem wX1_change (K : JK p l R s m args meth c D S0 A0 9 cX1_change "MoveNotes" 15) (bc : Nat) (bs : Nat) (this : Nat) (p1 : Int32) (p2 : Int32) (p3 : Int32) (p4 : Int32) (p5 : Int32) (p6 : Int32) (Ex : Nat → Nat → JP) (Qj : Int32 → JP) (hEx : jThr p l e R s m args below meth c Q D S0 9 cX1_change "MoveNotes" [] Ex) (hret : jRetZ p l e R s m args below meth c Q D S0 9 cX1_change Qj) : JR p l e R s m args below meth c Q D S0 9 bc bs (JX1_change bc bs this p1 p2 p3 p4 p5 p6 Ex Qj) 0 [some (.ref this), some (.int p1), some (.int p2), some (.int p3), some (.int p4), some (.int p5), some (.int p6), none, none] [] := by
  unfold JX1_change
  refine jr_aload_n K dX1_change_0 rfl ?_
  refine jr_iload_n K dX1_change_1 rfl ?_
  refine jr_iload_n K dX1_change_2 rfl ?_
  refine jr_bud (fun mc3 ms3 hmc3 hms3 => ?_)
  refine jrx_callv ⟨hmc3, hms3⟩ (jrunx_V (As := [.int p1, .int p2]) (st := []) (ci := 1) K (metX1_isNote K.hG mc3 ms3 this p1 p2 Ex _) mtX1_isNote mvX1_isNote q1279 rfl rfl rfl (Nat.le_of_ble_eq_true rfl) (by decide) ⟨hmc3, hms3⟩ dX1_change_3) (fun x q => hEx.1 _ _ _ _ x q (fun _ h => nomatch h)) ?_
  refine jr_aload_n K dX1_change_6 rfl ?_
  refine jr_iload_n K dX1_change_7 rfl ?_
  refine jr_iconst K dX1_change_8 (v := (nI 0)) (by decide) ?_
  refine jr_bud (fun mc9 ms9 hmc9 hms9 => ?_)
  refine jrx_callv ⟨hmc9, hms9⟩ (jrunx_V (As := [.int p3, .int (nI 0)]) (st := []) (ci := 1) K (metX1_isKind K.hG mc9 ms9 this p3 (nI 0) Ex _) mtX1_isKind mvX1_isKind q1212 rfl rfl rfl (Nat.le_of_ble_eq_true rfl) (by decide) ⟨hmc9, hms9⟩ dX1_change_9) (fun x q => hEx.1 _ _ _ _ x q (fun _ h => nomatch h)) ?_
  refine jr_iload K dX1_change_12 rfl ?_
  refine jr_iload K dX1_change_14 rfl ?_
  refine jr_iload K dX1_change_16 rfl ?_
  refine jr_bud (fun mc18 ms18 hmc18 hms18 => ?_)
  refine jrx_callv ⟨hmc18, hms18⟩ (jrunx_S (As := [.int p4, .int p5, .int p6]) (st := []) K (metX1_isNoted K.hG mc18 ms18 p4 p5 p6 Ex _) mtX1_isNoted q1247 q1246 rfl rfl (Nat.le_of_ble_eq_true rfl) (by decide) ⟨hmc18, hms18⟩ dX1_change_18) (fun x q => hEx.1 _ _ _ _ x q (fun _ h => nomatch h)) ?_
  refine jr_new K in_X23 rfl tyX23_ok dfo23 q1249 q1250 q134 dX1_change_21 (fun v21 => ?_)
  refine jr_dup K dX1_change_24 rfl ?_
  refine jr_iload_n K dX1_change_25 rfl ?_
  refine jr_iload K dX1_change_26 rfl ?_
  refine jr_iload K dX1_change_28 rfl ?_
  refine jr_iload K dX1_change_30 rfl ?_
  refine jr_callv0 (jrun_I (As := [.int p3, .int p4, .int p5, .int p6]) (st := [.ref v21]) K (metX23_init K.hG v21 p3 p4 p5 p6 _) mtX23_init q1252 rfl q1251 rfl rfl (Nat.le_of_ble_eq_true rfl) (by decide) ⟨Nat.zero_le _, Nat.zero_le _⟩ dX1_change_32) ?_
  refine jr_astore K (L' := [some (.ref this), some (.int p1), some (.int p2), some (.int p3), some (.int p4), some (.int p5), some (.int p6), some (.ref v21), none]) dX1_change_35 (by decide) rfl rfl ?_
  refine jr_aload K dX1_change_37 rfl ?_
  refine jr_aload_n K dX1_change_39 rfl ?_
  refine jr_getA K gf_X1_19 dX1_change_40 (fun v40 => ?_)
  refine jr_getA K gf_X1_99 dX1_change_43 (fun v43 => ?_)
  refine jr_iload_n K dX1_change_46 rfl ?_
  refine jr_aald K (by decide) dX1_change_47 (fun v47 => ?_)
  refine jr_getA K gf_X1_193 dX1_change_48 (fun v48 => ?_)
  refine jr_iload_n K dX1_change_51 rfl ?_
  refine jr_aald K (by decide) dX1_change_52 (fun v52 => ?_)
  refine jr_calli0 (jrun_V (As := [.ref v52]) (st := []) (ci := 23) K (metX23_isLike K.hG v21 v52 _) mtX23_isLike mvX23_isLike q1283 rfl rfl rfl (Nat.le_of_ble_eq_true rfl) (by decide) ⟨Nat.zero_le _, Nat.zero_le _⟩ dX1_change_53) (fun v53 => ?_)
  refine jr_join (fun (k64 : Int32 → JP) => ∀ (s0_64 : Int32), JR p l e R s m args below meth c Q D S0 9 ((((bc - mc3) - mc9) - mc18) - 1) ((((bs - ms3) - ms9) - ms18) - 4) (k64 s0_64) 64 [some (.ref this), some (.int p1), some (.int p2), none, none, none, none, some (.ref v21), none] [.int s0_64]) ?_ (fun k64 hk64 => ?_)
  · intro s0_64
    refine jr_istore K (L' := [some (.ref this), some (.int p1), some (.int p2), none, none, none, none, some (.ref v21), some (.int s0_64)]) dX1_change_64 (by decide) rfl rfl ?_
    refine jr_aload_n K dX1_change_66 rfl ?_
    refine jr_getA K gf_X1_19 dX1_change_67 (fun v67 => ?_)
    refine jr_getA K gf_X1_99 dX1_change_70 (fun v70 => ?_)
    refine jr_iload_n K dX1_change_73 rfl ?_
    refine jr_aald K (by decide) dX1_change_74 (fun v74 => ?_)
    refine jr_getA K gf_X1_193 dX1_change_75 (fun v75 => ?_)
    refine jr_iload_n K dX1_change_78 rfl ?_
    refine jr_aload K dX1_change_79 rfl ?_
    refine jr_aast K (by decide) jfit_10_23 dX1_change_81 ?_
    refine jr_aload_n K dX1_change_82 rfl ?_
    refine jr_iconst K dX1_change_83 (v := (nI 0)) (by decide) ?_
    refine jr_putZ K pf_X1_174 dX1_change_84 ?_
    refine jr_iload K dX1_change_87 rfl ?_
    exact hret _ _ _ _ _ dX1_change_89
  refine jr_if_ne K (tgt := 63) dX1_change_56 (by decide) ?_ ?_
  · refine jr_iconst K dX1_change_63 (v := (nI 0)) (by decide) ?_
    exact jr_weak (hk64 (nI 0)) ⟨rfl, rfl, rfl, rfl, trivial⟩
  · refine jr_iconst K dX1_change_59 (v := (nI 1)) (by decide) ?_
    refine jr_goto K (tgt := 64) dX1_change_60 (by decide) ?_
    exact jr_weak (hk64 (nI 1)) ⟨rfl, rfl, rfl, rfl, trivial⟩
theorem metX1_change (hG : jG l D S0 A0) (bc : Nat) (bs : Nat) (this : Nat) (p1 : Int32) (p2 : Int32) (p3 : Int32) (p4 : Int32) (p5 : Int32) (p6 : Int32) (Ex : Nat → Nat → JP) (Qj : Int32 → JP) : vx_Met l yX1_change (ws_ yX1_change cX1_change 9 (some .boolean)) (jrm 15 bc bs) (va_Pc [.ref this, .int p1, .int p2, .int p3, .int p4, .int p5, .int p6] (jB D S0 (JX1_change bc bs this p1 p2 p3 p4 p5 p6 Ex Qj))) (va_Qi Qj (fun σ t => jRep D S0.heap.size σ t.heap) (jA S0)) (jXC D S0 Ex) bc bs (jA S0) :=
  jx_start hG (by decide) (by decide) (Nat.le_of_ble_eq_true rfl) rfl fun p e s m below meth c K hr hEx => wX1_change K bc bs this p1 p2 p3 p4 p5 p6 Ex Qj hEx (fun _ _ _ _ _ d => jr_xret jx_mq (jr_zret K hr d))
theorem wX0_change (K : JK p l R s m args meth c D S0 A0 9 cX0_change "MoveNotesLaw" 16) (htb : c.exceptionTable.toList = tableOf [(0, 25, 28, 25), (0, 25, 32, 13)]) (bc : Nat) (bs : Nat) (p0 : Nat) (p1 : Int32) (p2 : Int32) (p3 : Int32) (p4 : Int32) (p5 : Int32) (p6 : Int32) (p7 : Nat) (Qj : Int32 → JP) (hret : jRetI p l e R s m args below meth c Q D S0 9 cX0_change Qj) : JR p l e R s m args below meth c Q D S0 9 bc bs (JX0_change bc bs p0 p1 p2 p3 p4 p5 p6 p7 Qj) 0 [some (.ref p0), some (.int p1), some (.int p2), some (.int p3), some (.int p4), some (.int p5), some (.int p6), some (.ref p7), none] [] := by
  unfold JX0_change
  refine jr_aload K dX0_change_0 rfl ?_
  refine jr_iconst K dX0_change_2 (v := (nI 0)) (by decide) ?_
  refine jr_aload_n K dX0_change_3 rfl ?_
  refine jr_iload_n K dX0_change_4 rfl ?_
  refine jr_iload_n K dX0_change_5 rfl ?_
  refine jr_iload_n K dX0_change_6 rfl ?_
  refine jr_iload K dX0_change_7 rfl ?_
  refine jr_iload K dX0_change_9 rfl ?_
  refine jr_iload K dX0_change_11 rfl ?_
  refine jr_bud (fun mc13 ms13 hmc13 hms13 => ?_)
  refine jrx_calli ⟨hmc13, hms13⟩ (jrunx_V (As := [.int p1, .int p2, .int p3, .int p4, .int p5, .int p6]) (st := [.int (nI 0), .ref p7]) (ci := 1) K (metX1_change K.hG mc13 ms13 p0 p1 p2 p3 p4 p5 p6 _ _) mtX1_change mvX1_change q1275 rfl rfl rfl (Nat.le_of_ble_eq_true rfl) (by decide) ⟨hmc13, hms13⟩ dX0_change_13) (fun xx13 xq13 => ?_) (fun v13 => ?_)
  · refine jt_if (fun hx0 => ?_) (fun hx0 => ?_)
    · subst hx0
      refine jt_catch0 K htb rfl (by decide) (by decide) q1155 q1199 ?_
      refine jr_astore K (L' := [some (.ref p0), some (.int p1), some (.int p2), some (.int p3), some (.int p4), some (.int p5), some (.int p6), some (.ref p7), some (.ref xq13)]) dX0_change_28 (by decide) rfl rfl ?_
      refine jr_iconst K dX0_change_30 (v := (nI 1)) (by decide) ?_
      exact hret _ _ _ _ _ dX0_change_31
    refine jt_if (fun hx1 => ?_) (fun hx1 => ?_)
    · subst hx1
      refine jt_catch1 K htb rfl (by decide) (by decide) q1155 (by decide) (jncast K (by decide +kernel)) q831 q1088 ?_
      refine jr_astore K (L' := [some (.ref p0), some (.int p1), some (.int p2), some (.int p3), some (.int p4), some (.int p5), some (.int p6), some (.ref p7), some (.ref xq13)]) dX0_change_32 (by decide) rfl rfl ?_
      refine jr_iconst K dX0_change_34 (v := (nI 2)) (by decide) ?_
      exact hret _ _ _ _ _ dX0_change_35
    exact JT.bot
  refine jr_join (fun (k24 : Int64 → JP) => ∀ (s2_24 : Int64), JR p l e R s m args below meth c Q D S0 9 (bc - mc13) (bs - ms13) (k24 s2_24) 24 [none, none, none, none, none, none, none, none, none] [.long s2_24, .int (nI 0), .ref p7]) ?_ (fun k24 hk24 => ?_)
  · intro s2_24
    refine jr_last K dX0_change_24 ?_
    refine jr_goto K (tgt := 36) dX0_change_25 (by decide) ?_
    refine jr_iconst K dX0_change_36 (v := (nI 0)) (by decide) ?_
    exact hret _ _ _ _ _ dX0_change_37
  refine jr_if_eq K (tgt := 23) dX0_change_16 (by decide) ?_ ?_
  · refine jr_lconst K dX0_change_23 (v := (lN 0)) rfl ?_
    exact jr_weak (hk24 (lN 0)) trivial
  · refine jr_lconst K dX0_change_19 (v := (lN 1)) rfl ?_
    refine jr_goto K (tgt := 24) dX0_change_20 (by decide) ?_
    exact jr_weak (hk24 (lN 1)) trivial
theorem metX0_change (hG : jG l D S0 A0) (bc : Nat) (bs : Nat) (p0 : Nat) (p1 : Int32) (p2 : Int32) (p3 : Int32) (p4 : Int32) (p5 : Int32) (p6 : Int32) (p7 : Nat) (Qj : Int32 → JP) : Met l yX0_change (wsW_ yX0_change cX0_change 9 (some .int) [(0, 25, 28, 25), (0, 25, 32, 13)]) (jrm 16 bc bs) (va_Pc [.ref p0, .int p1, .int p2, .int p3, .int p4, .int p5, .int p6, .ref p7] (jB D S0 (JX0_change bc bs p0 p1 p2 p3 p4 p5 p6 p7 Qj))) (va_Qi Qj (fun σ t => jRep D S0.heap.size σ t.heap) (jA S0)) bc bs (jA S0) :=
  jr_startW hG (by decide) (Nat.le_of_ble_eq_true rfl) rfl fun p e s m below meth c K hr hn htb => wX0_change K htb bc bs p0 p1 p2 p3 p4 p5 p6 p7 Qj (fun _ _ _ _ _ d => jr_iret K hr rfl d)
theorem wX1_look (K : JK p l R s m args meth c D S0 A0 5 cX1_look "MoveNotes" 15) (bc : Nat) (bs : Nat) (this : Nat) (p1 : Int32) (p2 : Int32) (p3 : Int32) (Ex : Nat → Nat → JP) (Qj : Int32 → JP) (hEx : jThr p l e R s m args below meth c Q D S0 5 cX1_look "MoveNotes" [] Ex) (hret : jRetI p l e R s m args below meth c Q D S0 5 cX1_look Qj) : JR p l e R s m args below meth c Q D S0 5 bc bs (JX1_look bc bs this p1 p2 p3 Ex Qj) 0 [some (.ref this), some (.int p1), some (.int p2), some (.int p3), none] [] := by
  unfold JX1_look
  refine jr_aload_n K dX1_look_0 rfl ?_
  refine jr_iload_n K dX1_look_1 rfl ?_
  refine jr_iload_n K dX1_look_2 rfl ?_
  refine jr_bud (fun mc3 ms3 hmc3 hms3 => ?_)
  refine jrx_callv ⟨hmc3, hms3⟩ (jrunx_V (As := [.int p1, .int p2]) (st := []) (ci := 1) K (metX1_isNote K.hG mc3 ms3 this p1 p2 Ex _) mtX1_isNote mvX1_isNote q1279 rfl rfl rfl (Nat.le_of_ble_eq_true rfl) (by decide) ⟨hmc3, hms3⟩ dX1_look_3) (fun x q => hEx.1 _ _ _ _ x q (fun _ h => nomatch h)) ?_
  refine jr_aload_n K dX1_look_6 rfl ?_
  refine jr_getA K gf_X1_19 dX1_look_7 (fun v7 => ?_)
  refine jr_getA K gf_X1_99 dX1_look_10 (fun v10 => ?_)
  refine jr_iload_n K dX1_look_13 rfl ?_
  refine jr_aald K (by decide) dX1_look_14 (fun v14 => ?_)
  refine jr_getA K gf_X1_193 dX1_look_15 (fun v15 => ?_)
  refine jr_iload_n K dX1_look_18 rfl ?_
  refine jr_aald K (by decide) dX1_look_19 (fun v19 => ?_)
  refine jr_astore K (L' := [some (.ref this), some (.int p1), some (.int p2), some (.int p3), some (.ref v19)]) dX1_look_20 (by decide) rfl rfl ?_
  refine jr_iload_n K dX1_look_22 rfl ?_
  refine jr_sw (fun hsw0 => ?_) (fun hsw0 => ?_)
  · refine jr_tsIn K dX1_look_23 hsw0 (off := 29) (tgt := 52) (by decide) (by decide) rfl (by decide) ?_
    refine jr_aload K dX1_look_52 rfl ?_
    refine jr_getI K gf_X1_209 dX1_look_54 (fun v54 => ?_)
    exact hret _ _ _ _ _ dX1_look_57
  refine jr_sw (fun hsw1 => ?_) (fun hsw1 => ?_)
  · refine jr_tsIn K dX1_look_23 hsw1 (off := 35) (tgt := 58) (by decide) (by decide) rfl (by decide) ?_
    refine jr_aload K dX1_look_58 rfl ?_
    refine jr_getI K gf_X1_211 dX1_look_60 (fun v60 => ?_)
    exact hret _ _ _ _ _ dX1_look_63
  refine jr_sw (fun hsw2 => ?_) (fun hsw2 => ?_)
  · refine jr_tsIn K dX1_look_23 hsw2 (off := 41) (tgt := 64) (by decide) (by decide) rfl (by decide) ?_
    refine jr_aload K dX1_look_64 rfl ?_
    refine jr_getI K gf_X1_214 dX1_look_66 (fun v66 => ?_)
    exact hret _ _ _ _ _ dX1_look_69
  refine jr_sw (fun hsw3 => ?_) (fun hsw3 => ?_)
  · refine jr_tsIn K dX1_look_23 hsw3 (off := 47) (tgt := 70) (by decide) (by decide) rfl (by decide) ?_
    refine jr_aload K dX1_look_70 rfl ?_
    refine jr_getI K gf_X1_217 dX1_look_72 (fun v72 => ?_)
    exact hret _ _ _ _ _ dX1_look_75
  refine jr_tsOut K dX1_look_23 (tgt := 76) (jsw_out (n := 4) [(nI 0), (nI 1), (nI 2), (nI 3)] (by decide) (by decide) (by decide) ⟨hsw0, hsw1, hsw2, hsw3, trivial⟩) (by decide) ?_
  exact jr_throw K hEx jxok_X1_3 (Nat.le_of_ble_eq_true rfl) (fun _ h => nomatch h) dX1_look_76 dX1_look_79 dX1_look_80 dX1_look_83
theorem metX1_look (hG : jG l D S0 A0) (bc : Nat) (bs : Nat) (this : Nat) (p1 : Int32) (p2 : Int32) (p3 : Int32) (Ex : Nat → Nat → JP) (Qj : Int32 → JP) : vx_Met l yX1_look (ws_ yX1_look cX1_look 5 (some .int)) (jrm 15 bc bs) (va_Pc [.ref this, .int p1, .int p2, .int p3] (jB D S0 (JX1_look bc bs this p1 p2 p3 Ex Qj))) (va_Qi Qj (fun σ t => jRep D S0.heap.size σ t.heap) (jA S0)) (jXC D S0 Ex) bc bs (jA S0) :=
  jx_start hG (by decide) (by decide) (Nat.le_of_ble_eq_true rfl) rfl fun p e s m below meth c K hr hEx => wX1_look K bc bs this p1 p2 p3 Ex Qj hEx (fun _ _ _ _ _ d => jr_xret jx_mq (jr_iret K hr rfl d))
theorem wX0_look (K : JK p l R s m args meth c D S0 A0 6 cX0_look "MoveNotesLaw" 16) (htb : c.exceptionTable.toList = tableOf [(0, 12, 15, 25), (0, 12, 19, 46)]) (bc : Nat) (bs : Nat) (p0 : Nat) (p1 : Int32) (p2 : Int32) (p3 : Int32) (p4 : Nat) (Qj : Int32 → JP) (hret : jRetI p l e R s m args below meth c Q D S0 6 cX0_look Qj) : JR p l e R s m args below meth c Q D S0 6 bc bs (JX0_look bc bs p0 p1 p2 p3 p4 Qj) 0 [some (.ref p0), some (.int p1), some (.int p2), some (.int p3), some (.ref p4), none] [] := by
  unfold JX0_look
  refine jr_aload K dX0_look_0 rfl ?_
  refine jr_iconst K dX0_look_2 (v := (nI 0)) (by decide) ?_
  refine jr_aload_n K dX0_look_3 rfl ?_
  refine jr_iload_n K dX0_look_4 rfl ?_
  refine jr_iload_n K dX0_look_5 rfl ?_
  refine jr_iload_n K dX0_look_6 rfl ?_
  refine jr_bud (fun mc7 ms7 hmc7 hms7 => ?_)
  refine jrx_calli ⟨hmc7, hms7⟩ (jrunx_V (As := [.int p1, .int p2, .int p3]) (st := [.int (nI 0), .ref p4]) (ci := 1) K (metX1_look K.hG mc7 ms7 p0 p1 p2 p3 _ _) mtX1_look mvX1_look q1288 rfl rfl rfl (Nat.le_of_ble_eq_true rfl) (by decide) ⟨hmc7, hms7⟩ dX0_look_7) (fun xx7 xq7 => ?_) (fun v7 => ?_)
  · refine jt_if (fun hx0 => ?_) (fun hx0 => ?_)
    · subst hx0
      refine jt_catch0 K htb rfl (by decide) (by decide) q1155 q1199 ?_
      refine jr_astore K (L' := [some (.ref p0), some (.int p1), some (.int p2), some (.int p3), some (.ref p4), some (.ref xq7)]) dX0_look_15 (by decide) rfl rfl ?_
      refine jr_iconst K dX0_look_17 (v := (nI 1)) (by decide) ?_
      exact hret _ _ _ _ _ dX0_look_18
    refine jt_if (fun hx1 => ?_) (fun hx1 => ?_)
    · subst hx1
      refine jt_catch1 K htb rfl (by decide) (by decide) q1155 (by decide) (jncast K (by decide +kernel)) q1287 q1294 ?_
      refine jr_astore K (L' := [some (.ref p0), some (.int p1), some (.int p2), some (.int p3), some (.ref p4), some (.ref xq7)]) dX0_look_19 (by decide) rfl rfl ?_
      refine jr_iconst K dX0_look_21 (v := (nI 2)) (by decide) ?_
      exact hret _ _ _ _ _ dX0_look_22
    exact JT.bot
  refine jr_i2l K dX0_look_10 ?_
  refine jr_last K dX0_look_11 ?_
  refine jr_goto K (tgt := 23) dX0_look_12 (by decide) ?_
  refine jr_iconst K dX0_look_23 (v := (nI 0)) (by decide) ?_
  exact hret _ _ _ _ _ dX0_look_24
theorem metX0_look (hG : jG l D S0 A0) (bc : Nat) (bs : Nat) (p0 : Nat) (p1 : Int32) (p2 : Int32) (p3 : Int32) (p4 : Nat) (Qj : Int32 → JP) : Met l yX0_look (wsW_ yX0_look cX0_look 6 (some .int) [(0, 12, 15, 25), (0, 12, 19, 46)]) (jrm 16 bc bs) (va_Pc [.ref p0, .int p1, .int p2, .int p3, .ref p4] (jB D S0 (JX0_look bc bs p0 p1 p2 p3 p4 Qj))) (va_Qi Qj (fun σ t => jRep D S0.heap.size σ t.heap) (jA S0)) bc bs (jA S0) :=
  jr_startW hG (by decide) (Nat.le_of_ble_eq_true rfl) rfl fun p e s m below meth c K hr hn htb => wX0_look K htb bc bs p0 p1 p2 p3 p4 Qj (fun _ _ _ _ _ d => jr_iret K hr rfl d)
theorem wX1_draw (K : JK p l R s m args meth c D S0 A0 1 cX1_draw "MoveNotes" 12) (bc bs : Nat) (this : Nat) (Qj : Int32 → JP) (hret : jRetI p l e R s m args below meth c Q D S0 1 cX1_draw Qj) : JR p l e R s m args below meth c Q D S0 1 bc bs (JX1_draw this Qj) 0 [some (.ref this)] [] := by
  unfold JX1_draw
  refine jr_aload_n K dX1_draw_0 rfl ?_
  refine jr_ldc K (v := (nI 1103515245)) q1318 (by decide) dX1_draw_1 ?_
  refine jr_aload_n K dX1_draw_3 rfl ?_
  refine jr_getI K gf_X1_221 dX1_draw_4 (fun v4 => ?_)
  refine jr_imul K dX1_draw_7 ?_
  refine jr_sipush K dX1_draw_8 (v := (nI 12345)) (by decide) ?_
  refine jr_iadd K dX1_draw_11 ?_
  refine jr_put K pf_X1_221 dX1_draw_12 rfl rfl ?_
  refine jr_aload_n K dX1_draw_15 rfl ?_
  refine jr_getI K gf_X1_221 dX1_draw_16 (fun v16 => ?_)
  refine jr_bipush K dX1_draw_19 (v := (nI 16)) (by decide) ?_
  refine jr_iushr K dX1_draw_21 ?_
  refine jr_sipush K dX1_draw_22 (v := (nI 32767)) (by decide) ?_
  refine jr_iand K dX1_draw_25 ?_
  exact hret _ _ _ _ _ dX1_draw_26
theorem metX1_draw (hG : jG l D S0 A0) (this : Nat) (Qj : Int32 → JP) : Met l yX1_draw (ws_ yX1_draw cX1_draw 1 (some .int)) (jrm 12 0 0) (va_Pc [.ref this] (jB D S0 (JX1_draw this Qj))) (va_Qi Qj (fun σ t => jRep D S0.heap.size σ t.heap) (jA S0)) 0 0 (jA S0) :=
  jr_start hG (by decide) (Nat.le_of_ble_eq_true rfl) rfl fun p e s m below meth c K hr hn => wX1_draw K _ _ this Qj (fun _ _ _ _ _ d => jr_iret K hr rfl d)
theorem wX1_write_98 (K : JK p l R s m args meth c D S0 A0 15 cX1_write "MoveNotes" 15) (bc : Nat) (bs : Nat) (this : Nat) (p1 : Int32) (p2 : Int32) (p3 : Int32) (Qj : Int32 → JP) (v58 : Int32) (v72 : Nat) (hret : jRetI p l e R s m args below meth c Q D S0 15 cX1_write Qj) : ∀ (n : Nat) (x7_98 : Int32) (bc_98 : Nat) (bs_98 : Nat), JR p l e R s m args below meth c Q D S0 15 bc_98 bs_98 (jit (FX1_write_98 this p1 p2 p3 Qj v58 v72) (fun _ _ _ => jbot) n x7_98 bc_98 bs_98) 98 [some (.ref this), some (.int p1), some (.int p2), some (.int p3), none, some (.int v58), some (.ref v72), some (.int x7_98), none, none, none, none, none, none, none] [] := by
  intro n
  induction n with
  | zero =>
    intro x7_98 bc_98 bs_98
    exact JR.bot
  | succ n ih98 =>
    intro x7_98 bc_98 bs_98
    show JR p l e R s m args below meth c Q D S0 15 bc_98 bs_98 (FX1_write_98 this p1 p2 p3 Qj v58 v72 (jit (FX1_write_98 this p1 p2 p3 Qj v58 v72) (fun _ _ _ => jbot) n) x7_98 bc_98 bs_98) 98 [some (.ref this), some (.int p1), some (.int p2), some (.int p3), none, some (.int v58), some (.ref v72), some (.int x7_98), none, none, none, none, none, none, none] []
    generalize jit (FX1_write_98 this p1 p2 p3 Qj v58 v72) (fun _ _ _ => jbot) n = rec98 at ih98 ⊢
    unfold FX1_write_98
    refine jr_iload K dX1_write_98 rfl ?_
    refine jr_iload_n K dX1_write_100 rfl ?_
    refine jr_icmp_ge K (tgt := 339) dX1_write_101 (by decide) ?_ ?_
    · refine jr_iload K dX1_write_339 rfl ?_
      exact hret _ _ _ _ _ dX1_write_341
    · refine jr_iload K dX1_write_104 rfl ?_
      refine jr_iconst K dX1_write_106 (v := (nI 2)) (by decide) ?_
      refine jr_irem K dX1_write_107 (by decide) ?_
      refine jr_istore K (L' := [some (.ref this), some (.int p1), some (.int p2), some (.int p3), none, some (.int v58), some (.ref v72), some (.int x7_98), some (.int (jrem x7_98 (nI 2))), none, none, none, none, none, none]) dX1_write_108 (by decide) rfl rfl ?_
      refine jr_aload_n K dX1_write_110 rfl ?_
      refine jr_getA K gf_X1_35 dX1_write_111 (fun v111 => ?_)
      refine jr_aload_n K dX1_write_114 rfl ?_
      refine jr_getA K gf_X1_65 dX1_write_115 (fun v115 => ?_)
      refine jr_iload K dX1_write_118 rfl ?_
      refine jr_aload_n K dX1_write_120 rfl ?_
      refine jr_getA K gf_X1_59 dX1_write_121 (fun v121 => ?_)
      refine jr_calli0 (jrun_V (As := [.ref v115, .int (jrem x7_98 (nI 2)), .ref v121]) (st := []) (ci := 10) K (metX10_gathers K.hG v111 v115 (jrem x7_98 (nI 2)) v121 _) mtX10_gathers mvX10_gathers q1223 rfl rfl rfl (Nat.le_of_ble_eq_true rfl) (by decide) ⟨Nat.zero_le _, Nat.zero_le _⟩ dX1_write_124) (fun v124 => ?_)
      refine jr_istore K (L' := [some (.ref this), some (.int p1), some (.int p2), some (.int p3), none, some (.int v58), some (.ref v72), some (.int x7_98), some (.int (jrem x7_98 (nI 2))), some (.int v124), none, none, none, none, none]) dX1_write_127 (by decide) rfl rfl ?_
      refine jr_iload K dX1_write_129 rfl ?_
      refine jr_if_ne K (tgt := 137) dX1_write_131 (by decide) ?_ ?_
      · refine jr_aload_n K dX1_write_137 rfl ?_
        refine jr_getA K gf_X1_59 dX1_write_138 (fun v138 => ?_)
        refine jr_aload_n K dX1_write_141 rfl ?_
        refine jr_calli0 (jrun_V (As := []) (st := [.ref v138]) (ci := 1) K (metX1_draw K.hG this _) mtX1_draw mvX1_draw q1314 rfl rfl rfl (Nat.le_of_ble_eq_true rfl) (by decide) ⟨Nat.zero_le _, Nat.zero_le _⟩ dX1_write_142) (fun v142 => ?_)
        refine jr_iload K dX1_write_145 rfl ?_
        refine jr_and (fun hnz => ?_)
        refine jr_irem K dX1_write_147 hnz ?_
        refine jr_iald K dX1_write_148 (fun v148 => ?_)
        refine jr_istore K (L' := [some (.ref this), some (.int p1), some (.int p2), some (.int p3), none, some (.int v58), some (.ref v72), some (.int x7_98), some (.int (jrem x7_98 (nI 2))), some (.int v124), some (.int v148), none, none, none, none]) dX1_write_149 (by decide) rfl rfl ?_
        refine jr_aload_n K dX1_write_151 rfl ?_
        refine jr_getA K gf_X1_65 dX1_write_152 (fun v152 => ?_)
        refine jr_getA K gf_X1_169 dX1_write_155 (fun v155 => ?_)
        refine jr_iload K dX1_write_158 rfl ?_
        refine jr_bipush K dX1_write_160 (v := (nI 36)) (by decide) ?_
        refine jr_idiv K dX1_write_162 (by decide) ?_
        refine jr_iald K dX1_write_163 (fun v163 => ?_)
        refine jr_istore K (L' := [some (.ref this), some (.int p1), some (.int p2), some (.int p3), none, some (.int v58), some (.ref v72), some (.int x7_98), some (.int (jrem x7_98 (nI 2))), some (.int v124), some (.int v148), some (.int v163), none, none, none]) dX1_write_164 (by decide) rfl rfl ?_
        refine jr_iload K dX1_write_166 rfl ?_
        refine jr_bipush K dX1_write_168 (v := (nI 36)) (by decide) ?_
        refine jr_irem K dX1_write_170 (by decide) ?_
        refine jr_bipush K dX1_write_171 (v := (nI 6)) (by decide) ?_
        refine jr_irem K dX1_write_173 (by decide) ?_
        refine jr_istore K (L' := [some (.ref this), some (.int p1), some (.int p2), some (.int p3), none, some (.int v58), some (.ref v72), some (.int x7_98), some (.int (jrem x7_98 (nI 2))), some (.int v124), some (.int v148), some (.int v163), some (.int (jrem (jrem v148 (nI 36)) (nI 6))), none, none]) dX1_write_174 (by decide) rfl rfl ?_
        refine jr_iload K dX1_write_176 rfl ?_
        refine jr_bipush K dX1_write_178 (v := (nI 36)) (by decide) ?_
        refine jr_irem K dX1_write_180 (by decide) ?_
        refine jr_bipush K dX1_write_181 (v := (nI 6)) (by decide) ?_
        refine jr_idiv K dX1_write_183 (by decide) ?_
        refine jr_istore K (L' := [some (.ref this), some (.int p1), some (.int p2), some (.int p3), none, some (.int v58), some (.ref v72), some (.int x7_98), some (.int (jrem x7_98 (nI 2))), some (.int v124), some (.int v148), some (.int v163), some (.int (jrem (jrem v148 (nI 36)) (nI 6))), some (.int ((jrem v148 (nI 36)) / (nI 6))), none]) dX1_write_184 (by decide) rfl rfl ?_
        refine jr_iload_n K dX1_write_186 rfl ?_
        refine jr_iconst K dX1_write_187 (v := (nI 1)) (by decide) ?_
        refine jr_join (fun (k206 : Int32 → JP) => ∀ (s0_206 : Int32), JR p l e R s m args below meth c Q D S0 15 bc_98 bs_98 (k206 s0_206) 206 [some (.ref this), some (.int p1), some (.int p2), some (.int p3), none, some (.int v58), some (.ref v72), some (.int x7_98), none, none, some (.int v148), some (.int v163), some (.int (jrem (jrem v148 (nI 36)) (nI 6))), none, none] [.int s0_206]) ?_ (fun k206 hk206 => ?_)
        · intro s0_206
          refine jr_istore K (L' := [some (.ref this), some (.int p1), some (.int p2), some (.int p3), none, some (.int v58), some (.ref v72), some (.int x7_98), none, none, some (.int v148), some (.int v163), some (.int (jrem (jrem v148 (nI 36)) (nI 6))), some (.int s0_206), none]) dX1_write_206 (by decide) rfl rfl ?_
          refine jr_aload_n K dX1_write_208 rfl ?_
          refine jr_getA K gf_X1_65 dX1_write_209 (fun v209 => ?_)
          refine jr_iload K dX1_write_212 rfl ?_
          refine jr_calli0 (jrun_V (As := [.int v148]) (st := []) (ci := 8) K (metX8_goes K.hG v209 v148 _) mtX8_goes mvX8_goes q794 rfl rfl rfl (Nat.le_of_ble_eq_true rfl) (by decide) ⟨Nat.zero_le _, Nat.zero_le _⟩ dX1_write_214) (fun v214 => ?_)
          refine jr_pop K dX1_write_217 rfl ?_
          refine jr_aload_n K dX1_write_218 rfl ?_
          refine jr_calli0 (jrun_V (As := []) (st := []) (ci := 1) K (metX1_draw K.hG this _) mtX1_draw mvX1_draw q1314 rfl rfl rfl (Nat.le_of_ble_eq_true rfl) (by decide) ⟨Nat.zero_le _, Nat.zero_le _⟩ dX1_write_219) (fun v219 => ?_)
          refine jr_bipush K dX1_write_222 (v := (nI 10)) (by decide) ?_
          refine jr_irem K dX1_write_224 (by decide) ?_
          refine jr_iload_n K dX1_write_225 rfl ?_
          refine jr_join (fun (k300 : Int32 → Int32 → Int32 → JP) => ∀ (x11_300 : Int32) (x12_300 : Int32) (x13_300 : Int32), JR p l e R s m args below meth c Q D S0 15 bc_98 bs_98 (k300 x11_300 x12_300 x13_300) 300 [some (.ref this), some (.int p1), some (.int p2), some (.int p3), none, some (.int v58), some (.ref v72), some (.int x7_98), none, none, none, some (.int x11_300), some (.int x12_300), some (.int x13_300), none] []) ?_ (fun k300 hk300 => ?_)
          · intro x11_300 x12_300 x13_300
            refine jr_aload K dX1_write_300 rfl ?_
            refine jr_getA K gf_X1_193 dX1_write_302 (fun v302 => ?_)
            refine jr_iload K dX1_write_305 rfl ?_
            refine jr_new K in_X23 rfl tyX23_ok dfo23 q1249 q1250 q134 dX1_write_307 (fun v307 => ?_)
            refine jr_dup K dX1_write_310 rfl ?_
            refine jr_iload K dX1_write_311 rfl ?_
            refine jr_iconst K dX1_write_313 (v := (-1)) (by decide) ?_
            refine jr_iload K dX1_write_314 rfl ?_
            refine jr_iload K dX1_write_316 rfl ?_
            refine jr_callv0 (jrun_I (As := [.int x11_300, .int (-1), .int x12_300, .int x13_300]) (st := [.ref v307, .int x7_98, .ref v302]) K (metX23_init K.hG v307 x11_300 (-1) x12_300 x13_300 _) mtX23_init q1252 rfl q1251 rfl rfl (Nat.le_of_ble_eq_true rfl) (by decide) ⟨Nat.zero_le _, Nat.zero_le _⟩ dX1_write_318) ?_
            refine jr_aast K (by decide) jfit_10_23 dX1_write_321 ?_
            refine jr_aload K dX1_write_322 rfl ?_
            refine jr_dup K dX1_write_324 rfl ?_
            refine jr_getI K gf_X1_107 dX1_write_325 (fun v325 => ?_)
            refine jr_iconst K dX1_write_328 (v := (nI 1)) (by decide) ?_
            refine jr_iadd K dX1_write_329 ?_
            refine jr_put K pf_X1_107 dX1_write_330 rfl rfl ?_
            refine jr_iinc K (v := (x7_98 + (nI 1))) (L' := [some (.ref this), some (.int p1), some (.int p2), some (.int p3), none, some (.int v58), some (.ref v72), some (.int (x7_98 + (nI 1))), none, none, none, some (.int x11_300), some (.int x12_300), some (.int x13_300), none]) dX1_write_333 rfl rfl (by decide) rfl rfl ?_
            refine jr_goto K (tgt := 98) dX1_write_336 (by decide) ?_
            exact jr_weak (ih98 (x7_98 + (nI 1)) (bc_98 - 1) (bs_98 - 4)) ⟨rfl, rfl, rfl, rfl, rfl, rfl, rfl, trivial⟩
          refine jr_icmp_ge K (tgt := 300) dX1_write_226 (by decide) ?_ ?_
          · exact jr_weak (hk300 v163 (jrem (jrem v148 (nI 36)) (nI 6)) s0_206) ⟨rfl, rfl, rfl, rfl, rfl, rfl, rfl, rfl, rfl, rfl, trivial⟩
          · refine jr_aload_n K dX1_write_229 rfl ?_
            refine jr_calli0 (jrun_V (As := []) (st := []) (ci := 1) K (metX1_draw K.hG this _) mtX1_draw mvX1_draw q1314 rfl rfl rfl (Nat.le_of_ble_eq_true rfl) (by decide) ⟨Nat.zero_le _, Nat.zero_le _⟩ dX1_write_230) (fun v230 => ?_)
            refine jr_iconst K dX1_write_233 (v := (nI 3)) (by decide) ?_
            refine jr_irem K dX1_write_234 (by decide) ?_
            refine jr_istore K (L' := [some (.ref this), some (.int p1), some (.int p2), some (.int p3), none, some (.int v58), some (.ref v72), some (.int x7_98), none, none, some (.int v148), some (.int v163), some (.int (jrem (jrem v148 (nI 36)) (nI 6))), some (.int s0_206), some (.int (jrem v230 (nI 3)))]) dX1_write_235 (by decide) rfl rfl ?_
            refine jr_iload K dX1_write_237 rfl ?_
            refine jr_if_ne K (tgt := 259) dX1_write_239 (by decide) ?_ ?_
            · refine jr_iload K dX1_write_259 rfl ?_
              refine jr_iconst K dX1_write_261 (v := (nI 1)) (by decide) ?_
              refine jr_icmp_ne K (tgt := 284) dX1_write_262 (by decide) ?_ ?_
              · refine jr_iload K dX1_write_284 rfl ?_
                refine jr_iload K dX1_write_286 rfl ?_
                refine jr_iconst K dX1_write_288 (v := (nI 5)) (by decide) ?_
                refine jr_join (fun (k297 : Int32 → JP) => ∀ (s1_297 : Int32), JR p l e R s m args below meth c Q D S0 15 bc_98 bs_98 (k297 s1_297) 297 [some (.ref this), some (.int p1), some (.int p2), some (.int p3), none, some (.int v58), some (.ref v72), some (.int x7_98), none, none, none, some (.int v163), some (.int (jrem (jrem v148 (nI 36)) (nI 6))), none, none] [.int s1_297, .int s0_206]) ?_ (fun k297 hk297 => ?_)
                · intro s1_297
                  refine jr_iadd K dX1_write_297 ?_
                  refine jr_istore K (L' := [some (.ref this), some (.int p1), some (.int p2), some (.int p3), none, some (.int v58), some (.ref v72), some (.int x7_98), none, none, none, some (.int v163), some (.int (jrem (jrem v148 (nI 36)) (nI 6))), some (.int (s0_206 + s1_297)), none]) dX1_write_298 (by decide) rfl rfl ?_
                  exact jr_weak (hk300 v163 (jrem (jrem v148 (nI 36)) (nI 6)) (s0_206 + s1_297)) ⟨rfl, rfl, rfl, rfl, rfl, rfl, rfl, rfl, rfl, rfl, trivial⟩
                refine jr_icmp_ne K (tgt := 296) dX1_write_289 (by decide) ?_ ?_
                · refine jr_iconst K dX1_write_296 (v := (nI 1)) (by decide) ?_
                  exact jr_weak (hk297 (nI 1)) ⟨rfl, rfl, rfl, rfl, rfl, rfl, rfl, rfl, rfl, trivial⟩
                · refine jr_iconst K dX1_write_292 (v := (-1)) (by decide) ?_
                  refine jr_goto K (tgt := 297) dX1_write_293 (by decide) ?_
                  exact jr_weak (hk297 (-1)) ⟨rfl, rfl, rfl, rfl, rfl, rfl, rfl, rfl, rfl, trivial⟩
              · refine jr_iload K dX1_write_265 rfl ?_
                refine jr_iload K dX1_write_267 rfl ?_
                refine jr_iconst K dX1_write_269 (v := (nI 5)) (by decide) ?_
                refine jr_join (fun (k278 : Int32 → JP) => ∀ (s1_278 : Int32), JR p l e R s m args below meth c Q D S0 15 bc_98 bs_98 (k278 s1_278) 278 [some (.ref this), some (.int p1), some (.int p2), some (.int p3), none, some (.int v58), some (.ref v72), some (.int x7_98), none, none, none, some (.int v163), none, some (.int s0_206), none] [.int s1_278, .int (jrem (jrem v148 (nI 36)) (nI 6))]) ?_ (fun k278 hk278 => ?_)
                · intro s1_278
                  refine jr_iadd K dX1_write_278 ?_
                  refine jr_istore K (L' := [some (.ref this), some (.int p1), some (.int p2), some (.int p3), none, some (.int v58), some (.ref v72), some (.int x7_98), none, none, none, some (.int v163), some (.int ((jrem (jrem v148 (nI 36)) (nI 6)) + s1_278)), some (.int s0_206), none]) dX1_write_279 (by decide) rfl rfl ?_
                  refine jr_goto K (tgt := 300) dX1_write_281 (by decide) ?_
                  exact jr_weak (hk300 v163 ((jrem (jrem v148 (nI 36)) (nI 6)) + s1_278) s0_206) ⟨rfl, rfl, rfl, rfl, rfl, rfl, rfl, rfl, rfl, rfl, trivial⟩
                refine jr_icmp_ne K (tgt := 277) dX1_write_270 (by decide) ?_ ?_
                · refine jr_iconst K dX1_write_277 (v := (nI 1)) (by decide) ?_
                  exact jr_weak (hk278 (nI 1)) ⟨rfl, rfl, rfl, rfl, rfl, rfl, rfl, rfl, rfl, trivial⟩
                · refine jr_iconst K dX1_write_273 (v := (-1)) (by decide) ?_
                  refine jr_goto K (tgt := 278) dX1_write_274 (by decide) ?_
                  exact jr_weak (hk278 (-1)) ⟨rfl, rfl, rfl, rfl, rfl, rfl, rfl, rfl, rfl, trivial⟩
            · refine jr_iload K dX1_write_242 rfl ?_
              refine jr_iconst K dX1_write_244 (v := (nI 1)) (by decide) ?_
              refine jr_iadd K dX1_write_245 ?_
              refine jr_aload_n K dX1_write_246 rfl ?_
              refine jr_getA K gf_X1_19 dX1_write_247 (fun v247 => ?_)
              refine jr_getI K gf_X1_93 dX1_write_250 (fun v250 => ?_)
              refine jr_and (fun hnz => ?_)
              refine jr_irem K dX1_write_253 hnz ?_
              refine jr_istore K (L' := [some (.ref this), some (.int p1), some (.int p2), some (.int p3), none, some (.int v58), some (.ref v72), some (.int x7_98), none, none, some (.int v148), some (.int (jrem (v163 + (nI 1)) v250)), some (.int (jrem (jrem v148 (nI 36)) (nI 6))), some (.int s0_206), some (.int (jrem v230 (nI 3)))]) dX1_write_254 (by decide) rfl rfl ?_
              refine jr_goto K (tgt := 300) dX1_write_256 (by decide) ?_
              exact jr_weak (hk300 (jrem (v163 + (nI 1)) v250) (jrem (jrem v148 (nI 36)) (nI 6)) s0_206) ⟨rfl, rfl, rfl, rfl, rfl, rfl, rfl, rfl, rfl, rfl, trivial⟩
        refine jr_join (fun (k204 : JP) => JR p l e R s m args below meth c Q D S0 15 bc_98 bs_98 k204 204 [some (.ref this), some (.int p1), some (.int p2), some (.int p3), none, some (.int v58), some (.ref v72), some (.int x7_98), none, none, some (.int v148), some (.int v163), some (.int (jrem (jrem v148 (nI 36)) (nI 6))), some (.int ((jrem v148 (nI 36)) / (nI 6))), none] []) ?_ (fun k204 hk204 => ?_)
        · refine jr_iload K dX1_write_204 rfl ?_
          exact jr_weak (hk206 ((jrem v148 (nI 36)) / (nI 6))) ⟨rfl, rfl, rfl, rfl, rfl, rfl, rfl, rfl, rfl, rfl, trivial⟩
        refine jr_icmp_ne K (tgt := 204) dX1_write_188 (by decide) ?_ ?_
        · exact jr_weak (hk204) ⟨rfl, rfl, rfl, rfl, rfl, rfl, rfl, rfl, rfl, rfl, rfl, trivial⟩
        · refine jr_iload K dX1_write_191 rfl ?_
          refine jr_iconst K dX1_write_193 (v := (nI 1)) (by decide) ?_
          refine jr_icmp_ne K (tgt := 204) dX1_write_194 (by decide) ?_ ?_
          · exact jr_weak (hk204) ⟨rfl, rfl, rfl, rfl, rfl, rfl, rfl, rfl, rfl, rfl, rfl, trivial⟩
          · refine jr_iconst K dX1_write_197 (v := (nI 5)) (by decide) ?_
            refine jr_iload K dX1_write_198 rfl ?_
            refine jr_isub K dX1_write_200 ?_
            refine jr_goto K (tgt := 206) dX1_write_201 (by decide) ?_
            exact jr_weak (hk206 ((nI 5) - ((jrem v148 (nI 36)) / (nI 6)))) ⟨rfl, rfl, rfl, rfl, rfl, rfl, rfl, rfl, rfl, rfl, trivial⟩
      · refine jr_iload K dX1_write_134 rfl ?_
        exact hret _ _ _ _ _ dX1_write_136
theorem wX1_write (K : JK p l R s m args meth c D S0 A0 15 cX1_write "MoveNotes" 15) (bc : Nat) (bs : Nat) (this : Nat) (p1 : Int32) (p2 : Int32) (p3 : Int32) (p4 : Int32) (Ex : Nat → Nat → JP) (Qj : Int32 → JP) (hEx : jThr p l e R s m args below meth c Q D S0 15 cX1_write "MoveNotes" [] Ex) (hret : jRetI p l e R s m args below meth c Q D S0 15 cX1_write Qj) : JR p l e R s m args below meth c Q D S0 15 bc bs (JX1_write bc bs this p1 p2 p3 p4 Ex Qj) 0 [some (.ref this), some (.int p1), some (.int p2), some (.int p3), some (.int p4), none, none, none, none, none, none, none, none, none, none] [] := by
  unfold JX1_write
  refine jr_iload_n K dX1_write_0 rfl ?_
  refine jr_iconst K dX1_write_1 (v := (nI 0)) (by decide) ?_
  refine jr_iconst K dX1_write_2 (v := (nI 1)) (by decide) ?_
  refine jr_calli0 (jrun_S (As := [.int p1, .int (nI 0), .int (nI 1)]) (st := []) K (metX1_isIn K.hG p1 (nI 0) (nI 1) _) mtX1_isIn q586 q585 rfl rfl (Nat.le_of_ble_eq_true rfl) (by decide) ⟨Nat.zero_le _, Nat.zero_le _⟩ dX1_write_3) (fun v3 => ?_)
  refine jr_join (fun (k34 : Int32 → JP) => ∀ (s0_34 : Int32), JR p l e R s m args below meth c Q D S0 15 bc bs (k34 s0_34) 34 [some (.ref this), some (.int p1), some (.int p2), some (.int p3), some (.int p4), none, none, none, none, none, none, none, none, none, none] [.int s0_34]) ?_ (fun k34 hk34 => ?_)
  · intro s0_34
    refine jr_bud (fun mc34 ms34 hmc34 hms34 => ?_)
    refine jrx_callv ⟨hmc34, hms34⟩ (jrunx_S (As := [.int s0_34]) (st := []) K (metX1_must K.hG mc34 ms34 s0_34 Ex _) mtX1_must q1108 q1107 rfl rfl (Nat.le_of_ble_eq_true rfl) (by decide) ⟨hmc34, hms34⟩ dX1_write_34) (fun x q => hEx.1 _ _ _ _ x q (fun _ h => nomatch h)) ?_
    refine jr_aload_n K dX1_write_37 rfl ?_
    refine jr_getA K gf_X1_19 dX1_write_38 (fun v38 => ?_)
    refine jr_getI K gf_X1_96 dX1_write_41 (fun v41 => ?_)
    refine jr_iconst K dX1_write_44 (v := (nI 3)) (by decide) ?_
    refine jr_join (fun (k53 : Int32 → JP) => ∀ (s0_53 : Int32), JR p l e R s m args below meth c Q D S0 15 (bc - mc34) (bs - ms34) (k53 s0_53) 53 [some (.ref this), some (.int p1), some (.int p2), some (.int p3), some (.int p4), none, none, none, none, none, none, none, none, none, none] [.int s0_53]) ?_ (fun k53 hk53 => ?_)
    · intro s0_53
      refine jr_bud (fun mc53 ms53 hmc53 hms53 => ?_)
      refine jrx_callv ⟨hmc53, hms53⟩ (jrunx_S (As := [.int s0_53]) (st := []) K (metX1_mayBe K.hG mc53 ms53 s0_53 Ex _) mtX1_mayBe q1111 q1110 rfl rfl (Nat.le_of_ble_eq_true rfl) (by decide) ⟨hmc53, hms53⟩ dX1_write_53) (fun x q => hEx.1 _ _ _ _ x q (fun _ h => nomatch h)) ?_
      refine jr_aload_n K dX1_write_56 rfl ?_
      refine jr_iload_n K dX1_write_57 rfl ?_
      refine jr_calli0 (jrun_V (As := [.int p1]) (st := []) (ci := 1) K (metX1_newBook K.hG this p1 _) mtX1_newBook mvX1_newBook q1231 rfl rfl rfl (Nat.le_of_ble_eq_true rfl) (by decide) ⟨Nat.zero_le _, Nat.zero_le _⟩ dX1_write_58) (fun v58 => ?_)
      refine jr_istore K (L' := [some (.ref this), some (.int p1), some (.int p2), some (.int p3), some (.int p4), some (.int v58), none, none, none, none, none, none, none, none, none]) dX1_write_61 (by decide) rfl rfl ?_
      refine jr_aload_n K dX1_write_63 rfl ?_
      refine jr_getA K gf_X1_19 dX1_write_64 (fun v64 => ?_)
      refine jr_getA K gf_X1_99 dX1_write_67 (fun v67 => ?_)
      refine jr_iload K dX1_write_70 rfl ?_
      refine jr_aald K (by decide) dX1_write_72 (fun v72 => ?_)
      refine jr_astore K (L' := [some (.ref this), some (.int p1), some (.int p2), some (.int p3), some (.int p4), some (.int v58), some (.ref v72), none, none, none, none, none, none, none, none]) dX1_write_73 (by decide) rfl rfl ?_
      refine jr_aload_n K dX1_write_75 rfl ?_
      refine jr_iload K dX1_write_76 rfl ?_
      refine jr_put K pf_X1_221 dX1_write_78 rfl rfl ?_
      refine jr_aload_n K dX1_write_81 rfl ?_
      refine jr_getA K gf_X1_65 dX1_write_82 (fun v82 => ?_)
      refine jr_aload_n K dX1_write_85 rfl ?_
      refine jr_getA K gf_X1_19 dX1_write_86 (fun v86 => ?_)
      refine jr_getA K gf_X1_166 dX1_write_89 (fun v89 => ?_)
      refine jr_callv0 (jrun_V (As := [.ref v89]) (st := []) (ci := 8) K (metX8_be K.hG v82 v89 _) mtX8_be mvX8_be q791 rfl rfl rfl (Nat.le_of_ble_eq_true rfl) (by decide) ⟨Nat.zero_le _, Nat.zero_le _⟩ dX1_write_92) ?_
      refine jr_iconst K dX1_write_95 (v := (nI 0)) (by decide) ?_
      refine jr_istore K (L' := [some (.ref this), some (.int p1), some (.int p2), some (.int p3), some (.int p4), some (.int v58), some (.ref v72), some (.int (nI 0)), none, none, none, none, none, none, none]) dX1_write_96 (by decide) rfl rfl ?_
      refine jr_ex (fun n98 => ?_)
      refine jr_weak (wX1_write_98 K bc bs this p1 p2 p3 Qj v58 v72 hret n98 (nI 0) ((bc - mc34) - mc53) ((bs - ms34) - ms53)) ⟨rfl, rfl, rfl, rfl, rfl, rfl, rfl, trivial⟩
    refine jr_icmp_ge K (tgt := 52) dX1_write_45 (by decide) ?_ ?_
    · refine jr_iconst K dX1_write_52 (v := (nI 0)) (by decide) ?_
      exact jr_weak (hk53 (nI 0)) ⟨rfl, rfl, rfl, rfl, rfl, trivial⟩
    · refine jr_iconst K dX1_write_48 (v := (nI 1)) (by decide) ?_
      refine jr_goto K (tgt := 53) dX1_write_49 (by decide) ?_
      exact jr_weak (hk53 (nI 1)) ⟨rfl, rfl, rfl, rfl, rfl, trivial⟩
  refine jr_join (fun (k33 : JP) => JR p l e R s m args below meth c Q D S0 15 bc bs k33 33 [some (.ref this), some (.int p1), some (.int p2), some (.int p3), some (.int p4), none, none, none, none, none, none, none, none, none, none] []) ?_ (fun k33 hk33 => ?_)
  · refine jr_iconst K dX1_write_33 (v := (nI 0)) (by decide) ?_
    exact jr_weak (hk34 (nI 0)) ⟨rfl, rfl, rfl, rfl, rfl, trivial⟩
  refine jr_if_eq K (tgt := 33) dX1_write_6 (by decide) ?_ ?_
  · exact jr_weak (hk33) ⟨rfl, rfl, rfl, rfl, rfl, trivial⟩
  · refine jr_iload_n K dX1_write_9 rfl ?_
    refine jr_iconst K dX1_write_10 (v := (nI 1)) (by decide) ?_
    refine jr_bipush K dX1_write_11 (v := (nI 24)) (by decide) ?_
    refine jr_calli0 (jrun_S (As := [.int p2, .int (nI 1), .int (nI 24)]) (st := []) K (metX1_isIn K.hG p2 (nI 1) (nI 24) _) mtX1_isIn q586 q585 rfl rfl (Nat.le_of_ble_eq_true rfl) (by decide) ⟨Nat.zero_le _, Nat.zero_le _⟩ dX1_write_13) (fun v13 => ?_)
    refine jr_if_eq K (tgt := 33) dX1_write_16 (by decide) ?_ ?_
    · exact jr_weak (hk33) ⟨rfl, rfl, rfl, rfl, rfl, trivial⟩
    · refine jr_iload_n K dX1_write_19 rfl ?_
      refine jr_iconst K dX1_write_20 (v := (nI 0)) (by decide) ?_
      refine jr_bipush K dX1_write_21 (v := (nI 9)) (by decide) ?_
      refine jr_calli0 (jrun_S (As := [.int p3, .int (nI 0), .int (nI 9)]) (st := []) K (metX1_isIn K.hG p3 (nI 0) (nI 9) _) mtX1_isIn q586 q585 rfl rfl (Nat.le_of_ble_eq_true rfl) (by decide) ⟨Nat.zero_le _, Nat.zero_le _⟩ dX1_write_23) (fun v23 => ?_)
      refine jr_if_eq K (tgt := 33) dX1_write_26 (by decide) ?_ ?_
      · exact jr_weak (hk33) ⟨rfl, rfl, rfl, rfl, rfl, trivial⟩
      · refine jr_iconst K dX1_write_29 (v := (nI 1)) (by decide) ?_
        refine jr_goto K (tgt := 34) dX1_write_30 (by decide) ?_
        exact jr_weak (hk34 (nI 1)) ⟨rfl, rfl, rfl, rfl, rfl, trivial⟩
theorem metX1_write (hG : jG l D S0 A0) (bc : Nat) (bs : Nat) (this : Nat) (p1 : Int32) (p2 : Int32) (p3 : Int32) (p4 : Int32) (Ex : Nat → Nat → JP) (Qj : Int32 → JP) : vx_Met l yX1_write (ws_ yX1_write cX1_write 15 (some .int)) (jrm 15 bc bs) (va_Pc [.ref this, .int p1, .int p2, .int p3, .int p4] (jB D S0 (JX1_write bc bs this p1 p2 p3 p4 Ex Qj))) (va_Qi Qj (fun σ t => jRep D S0.heap.size σ t.heap) (jA S0)) (jXC D S0 Ex) bc bs (jA S0) :=
  jx_start hG (by decide) (by decide) (Nat.le_of_ble_eq_true rfl) rfl fun p e s m below meth c K hr hEx => wX1_write K bc bs this p1 p2 p3 p4 Ex Qj hEx (fun _ _ _ _ _ d => jr_xret jx_mq (jr_iret K hr rfl d))
theorem wX0_write (K : JK p l R s m args meth c D S0 A0 7 cX0_write "MoveNotesLaw" 16) (htb : c.exceptionTable.toList = tableOf [(0, 14, 17, 13), (0, 14, 21, 15)]) (bc : Nat) (bs : Nat) (p0 : Nat) (p1 : Int32) (p2 : Int32) (p3 : Int32) (p4 : Int32) (p5 : Nat) (Qj : Int32 → JP) (hret : jRetI p l e R s m args below meth c Q D S0 7 cX0_write Qj) : JR p l e R s m args below meth c Q D S0 7 bc bs (JX0_write bc bs p0 p1 p2 p3 p4 p5 Qj) 0 [some (.ref p0), some (.int p1), some (.int p2), some (.int p3), some (.int p4), some (.ref p5), none] [] := by
  unfold JX0_write
  refine jr_aload K dX0_write_0 rfl ?_
  refine jr_iconst K dX0_write_2 (v := (nI 0)) (by decide) ?_
  refine jr_aload_n K dX0_write_3 rfl ?_
  refine jr_iload_n K dX0_write_4 rfl ?_
  refine jr_iload_n K dX0_write_5 rfl ?_
  refine jr_iload_n K dX0_write_6 rfl ?_
  refine jr_iload K dX0_write_7 rfl ?_
  refine jr_bud (fun mc9 ms9 hmc9 hms9 => ?_)
  refine jrx_calli ⟨hmc9, hms9⟩ (jrunx_V (As := [.int p1, .int p2, .int p3, .int p4]) (st := [.int (nI 0), .ref p5]) (ci := 1) K (metX1_write K.hG mc9 ms9 p0 p1 p2 p3 p4 _ _) mtX1_write mvX1_write q1310 rfl rfl rfl (Nat.le_of_ble_eq_true rfl) (by decide) ⟨hmc9, hms9⟩ dX0_write_9) (fun xx9 xq9 => ?_) (fun v9 => ?_)
  · refine jt_if (fun hx0 => ?_) (fun hx0 => ?_)
    · subst hx0
      refine jt_catch0 K htb rfl (by decide) (by decide) q831 q1088 ?_
      refine jr_astore K (L' := [some (.ref p0), some (.int p1), some (.int p2), some (.int p3), some (.int p4), some (.ref p5), some (.ref xq9)]) dX0_write_17 (by decide) rfl rfl ?_
      refine jr_iconst K dX0_write_19 (v := (nI 1)) (by decide) ?_
      exact hret _ _ _ _ _ dX0_write_20
    refine jt_if (fun hx1 => ?_) (fun hx1 => ?_)
    · subst hx1
      refine jt_catch1 K htb rfl (by decide) (by decide) q831 (by decide) (jncast K (by decide +kernel)) q832 q1115 ?_
      refine jr_astore K (L' := [some (.ref p0), some (.int p1), some (.int p2), some (.int p3), some (.int p4), some (.ref p5), some (.ref xq9)]) dX0_write_21 (by decide) rfl rfl ?_
      refine jr_iconst K dX0_write_23 (v := (nI 2)) (by decide) ?_
      exact hret _ _ _ _ _ dX0_write_24
    exact JT.bot
  refine jr_i2l K dX0_write_12 ?_
  refine jr_last K dX0_write_13 ?_
  refine jr_goto K (tgt := 25) dX0_write_14 (by decide) ?_
  refine jr_iconst K dX0_write_25 (v := (nI 0)) (by decide) ?_
  exact hret _ _ _ _ _ dX0_write_26
theorem metX0_write (hG : jG l D S0 A0) (bc : Nat) (bs : Nat) (p0 : Nat) (p1 : Int32) (p2 : Int32) (p3 : Int32) (p4 : Int32) (p5 : Nat) (Qj : Int32 → JP) : Met l yX0_write (wsW_ yX0_write cX0_write 7 (some .int) [(0, 14, 17, 13), (0, 14, 21, 15)]) (jrm 16 bc bs) (va_Pc [.ref p0, .int p1, .int p2, .int p3, .int p4, .ref p5] (jB D S0 (JX0_write bc bs p0 p1 p2 p3 p4 p5 Qj))) (va_Qi Qj (fun σ t => jRep D S0.heap.size σ t.heap) (jA S0)) bc bs (jA S0) :=
  jr_startW hG (by decide) (Nat.le_of_ble_eq_true rfl) rfl fun p e s m below meth c K hr hn htb => wX0_write K htb bc bs p0 p1 p2 p3 p4 p5 Qj (fun _ _ _ _ _ d => jr_iret K hr rfl d)
theorem wX1_isSlip (K : JK p l R s m args meth c D S0 A0 1 cX1_isSlip "MoveNotes" 13) (bc : Nat) (bs : Nat) (p0 : Int32) (Ex : Nat → Nat → JP) (Qj : JP) (hEx : jThr p l e R s m args below meth c Q D S0 1 cX1_isSlip "MoveNotes" [] Ex) (hret : jRetV p l e R s m args below meth c Q D S0 1 cX1_isSlip Qj) : JR p l e R s m args below meth c Q D S0 1 bc bs (JX1_isSlip bc bs p0 Ex Qj) 0 [some (.int p0)] [] := by
  unfold JX1_isSlip
  refine jr_iload_n K dX1_isSlip_0 rfl ?_
  refine jr_iconst K dX1_isSlip_1 (v := (nI 1)) (by decide) ?_
  refine jr_bipush K dX1_isSlip_2 (v := (nI 7)) (by decide) ?_
  refine jr_calli0 (jrun_S (As := [.int p0, .int (nI 1), .int (nI 7)]) (st := []) K (metX1_isIn K.hG p0 (nI 1) (nI 7) _) mtX1_isIn q586 q585 rfl rfl (Nat.le_of_ble_eq_true rfl) (by decide) ⟨Nat.zero_le _, Nat.zero_le _⟩ dX1_isSlip_4) (fun v4 => ?_)
  refine jr_bud (fun mc7 ms7 hmc7 hms7 => ?_)
  refine jrx_callv ⟨hmc7, hms7⟩ (jrunx_S (As := [.int v4]) (st := []) K (metX1_mustBe K.hG mc7 ms7 v4 Ex _) mtX1_mustBe q1195 q1194 rfl rfl (Nat.le_of_ble_eq_true rfl) (by decide) ⟨hmc7, hms7⟩ dX1_isSlip_7) (fun x q => hEx.1 _ _ _ _ x q (fun _ h => nomatch h)) ?_
  exact hret _ _ _ _ dX1_isSlip_10
theorem metX1_isSlip (hG : jG l D S0 A0) (bc : Nat) (bs : Nat) (p0 : Int32) (Ex : Nat → Nat → JP) (Qj : JP) : vx_Met l yX1_isSlip (ws_ yX1_isSlip cX1_isSlip 1 none) (jrm 13 bc bs) (va_Pc [.int p0] (jB D S0 (JX1_isSlip bc bs p0 Ex Qj))) (va_Qv Qj (fun σ t => jRep D S0.heap.size σ t.heap) (jA S0)) (jXC D S0 Ex) bc bs (jA S0) :=
  jx_start hG (by decide) (by decide) (Nat.le_of_ble_eq_true rfl) rfl fun p e s m below meth c K hr hEx => wX1_isSlip K bc bs p0 Ex Qj hEx (fun _ _ _ _ d => jr_xret jx_mq (jr_vret K hr d))
theorem wX1_price (K : JK p l R s m args meth c D S0 A0 4 cX1_price "MoveNotes" 14) (bc : Nat) (bs : Nat) (this : Nat) (p1 : Int32) (p2 : Int32) (Ex : Nat → Nat → JP) (Qj : Int32 → JP) (hEx : jThr p l e R s m args below meth c Q D S0 4 cX1_price "MoveNotes" [] Ex) (hret : jRetI p l e R s m args below meth c Q D S0 4 cX1_price Qj) : JR p l e R s m args below meth c Q D S0 4 bc bs (JX1_price bc bs this p1 p2 Ex Qj) 0 [some (.ref this), some (.int p1), some (.int p2), none] [] := by
  unfold JX1_price
  refine jr_iload_n K dX1_price_0 rfl ?_
  refine jr_bud (fun mc1 ms1 hmc1 hms1 => ?_)
  refine jrx_callv ⟨hmc1, hms1⟩ (jrunx_S (As := [.int p1]) (st := []) K (metX1_isSlip K.hG mc1 ms1 p1 Ex _) mtX1_isSlip q1327 q1326 rfl rfl (Nat.le_of_ble_eq_true rfl) (by decide) ⟨hmc1, hms1⟩ dX1_price_1) (fun x q => hEx.1 _ _ _ _ x q (fun _ h => nomatch h)) ?_
  refine jr_iload_n K dX1_price_4 rfl ?_
  refine jr_iconst K dX1_price_5 (v := (nI 0)) (by decide) ?_
  refine jr_bipush K dX1_price_6 (v := (nI 9)) (by decide) ?_
  refine jr_calli0 (jrun_S (As := [.int p2, .int (nI 0), .int (nI 9)]) (st := []) K (metX1_isIn K.hG p2 (nI 0) (nI 9) _) mtX1_isIn q586 q585 rfl rfl (Nat.le_of_ble_eq_true rfl) (by decide) ⟨Nat.zero_le _, Nat.zero_le _⟩ dX1_price_8) (fun v8 => ?_)
  refine jr_bud (fun mc11 ms11 hmc11 hms11 => ?_)
  refine jrx_callv ⟨hmc11, hms11⟩ (jrunx_S (As := [.int v8]) (st := []) K (metX1_must K.hG mc11 ms11 v8 Ex _) mtX1_must q1108 q1107 rfl rfl (Nat.le_of_ble_eq_true rfl) (by decide) ⟨hmc11, hms11⟩ dX1_price_11) (fun x q => hEx.1 _ _ _ _ x q (fun _ h => nomatch h)) ?_
  refine jr_aload_n K dX1_price_14 rfl ?_
  refine jr_getA K gf_X1_19 dX1_price_15 (fun v15 => ?_)
  refine jr_getA K gf_X1_237 dX1_price_18 (fun v18 => ?_)
  refine jr_iload_n K dX1_price_21 rfl ?_
  refine jr_iald K dX1_price_22 (fun v22 => ?_)
  refine jr_istore_n K (L' := [some (.ref this), some (.int p1), some (.int p2), some (.int v22)]) dX1_price_23 (by decide) rfl rfl ?_
  refine jr_aload_n K dX1_price_24 rfl ?_
  refine jr_getA K gf_X1_19 dX1_price_25 (fun v25 => ?_)
  refine jr_getA K gf_X1_237 dX1_price_28 (fun v28 => ?_)
  refine jr_iload_n K dX1_price_31 rfl ?_
  refine jr_iload_n K dX1_price_32 rfl ?_
  refine jr_iast K dX1_price_33 ?_
  refine jr_aload_n K dX1_price_34 rfl ?_
  refine jr_iconst K dX1_price_35 (v := (nI 0)) (by decide) ?_
  refine jr_putZ K pf_X1_174 dX1_price_36 ?_
  refine jr_iload_n K dX1_price_39 rfl ?_
  exact hret _ _ _ _ _ dX1_price_40
theorem metX1_price (hG : jG l D S0 A0) (bc : Nat) (bs : Nat) (this : Nat) (p1 : Int32) (p2 : Int32) (Ex : Nat → Nat → JP) (Qj : Int32 → JP) : vx_Met l yX1_price (ws_ yX1_price cX1_price 4 (some .int)) (jrm 14 bc bs) (va_Pc [.ref this, .int p1, .int p2] (jB D S0 (JX1_price bc bs this p1 p2 Ex Qj))) (va_Qi Qj (fun σ t => jRep D S0.heap.size σ t.heap) (jA S0)) (jXC D S0 Ex) bc bs (jA S0) :=
  jx_start hG (by decide) (by decide) (Nat.le_of_ble_eq_true rfl) rfl fun p e s m below meth c K hr hEx => wX1_price K bc bs this p1 p2 Ex Qj hEx (fun _ _ _ _ _ d => jr_xret jx_mq (jr_iret K hr rfl d))
theorem wX0_price (K : JK p l R s m args meth c D S0 A0 5 cX0_price "MoveNotesLaw" 15) (htb : c.exceptionTable.toList = tableOf [(0, 10, 13, 25), (0, 10, 17, 13)]) (bc : Nat) (bs : Nat) (p0 : Nat) (p1 : Int32) (p2 : Int32) (p3 : Nat) (Qj : Int32 → JP) (hret : jRetI p l e R s m args below meth c Q D S0 5 cX0_price Qj) : JR p l e R s m args below meth c Q D S0 5 bc bs (JX0_price bc bs p0 p1 p2 p3 Qj) 0 [some (.ref p0), some (.int p1), some (.int p2), some (.ref p3), none] [] := by
  unfold JX0_price
  refine jr_aload_n K dX0_price_0 rfl ?_
  refine jr_iconst K dX0_price_1 (v := (nI 0)) (by decide) ?_
  refine jr_aload_n K dX0_price_2 rfl ?_
  refine jr_iload_n K dX0_price_3 rfl ?_
  refine jr_iload_n K dX0_price_4 rfl ?_
  refine jr_bud (fun mc5 ms5 hmc5 hms5 => ?_)
  refine jrx_calli ⟨hmc5, hms5⟩ (jrunx_V (As := [.int p1, .int p2]) (st := [.int (nI 0), .ref p3]) (ci := 1) K (metX1_price K.hG mc5 ms5 p0 p1 p2 _ _) mtX1_price mvX1_price q1322 rfl rfl rfl (Nat.le_of_ble_eq_true rfl) (by decide) ⟨hmc5, hms5⟩ dX0_price_5) (fun xx5 xq5 => ?_) (fun v5 => ?_)
  · refine jt_if (fun hx0 => ?_) (fun hx0 => ?_)
    · subst hx0
      refine jt_catch0 K htb rfl (by decide) (by decide) q1155 q1199 ?_
      refine jr_astore K (L' := [some (.ref p0), some (.int p1), some (.int p2), some (.ref p3), some (.ref xq5)]) dX0_price_13 (by decide) rfl rfl ?_
      refine jr_iconst K dX0_price_15 (v := (nI 1)) (by decide) ?_
      exact hret _ _ _ _ _ dX0_price_16
    refine jt_if (fun hx1 => ?_) (fun hx1 => ?_)
    · subst hx1
      refine jt_catch1 K htb rfl (by decide) (by decide) q1155 (by decide) (jncast K (by decide +kernel)) q831 q1088 ?_
      refine jr_astore K (L' := [some (.ref p0), some (.int p1), some (.int p2), some (.ref p3), some (.ref xq5)]) dX0_price_17 (by decide) rfl rfl ?_
      refine jr_iconst K dX0_price_19 (v := (nI 2)) (by decide) ?_
      exact hret _ _ _ _ _ dX0_price_20
    exact JT.bot
  refine jr_i2l K dX0_price_8 ?_
  refine jr_last K dX0_price_9 ?_
  refine jr_goto K (tgt := 21) dX0_price_10 (by decide) ?_
  refine jr_iconst K dX0_price_21 (v := (nI 0)) (by decide) ?_
  exact hret _ _ _ _ _ dX0_price_22
theorem metX0_price (hG : jG l D S0 A0) (bc : Nat) (bs : Nat) (p0 : Nat) (p1 : Int32) (p2 : Int32) (p3 : Nat) (Qj : Int32 → JP) : Met l yX0_price (wsW_ yX0_price cX0_price 5 (some .int) [(0, 10, 13, 25), (0, 10, 17, 13)]) (jrm 15 bc bs) (va_Pc [.ref p0, .int p1, .int p2, .ref p3] (jB D S0 (JX0_price bc bs p0 p1 p2 p3 Qj))) (va_Qi Qj (fun σ t => jRep D S0.heap.size σ t.heap) (jA S0)) bc bs (jA S0) :=
  jr_startW hG (by decide) (Nat.le_of_ble_eq_true rfl) rfl fun p e s m below meth c K hr hn htb => wX0_price K htb bc bs p0 p1 p2 p3 Qj (fun _ _ _ _ _ d => jr_iret K hr rfl d)
theorem wX1_length (K : JK p l R s m args meth c D S0 A0 2 cX1_length "MoveNotes" 13) (bc : Nat) (bs : Nat) (this : Nat) (p1 : Int32) (Ex : Nat → Nat → JP) (Qj : JP) (hEx : jThr p l e R s m args below meth c Q D S0 2 cX1_length "MoveNotes" [] Ex) (hret : jRetV p l e R s m args below meth c Q D S0 2 cX1_length Qj) : JR p l e R s m args below meth c Q D S0 2 bc bs (JX1_length bc bs this p1 Ex Qj) 0 [some (.ref this), some (.int p1)] [] := by
  unfold JX1_length
  refine jr_iload_n K dX1_length_0 rfl ?_
  refine jr_iconst K dX1_length_1 (v := (-1)) (by decide) ?_
  refine jr_bipush K dX1_length_2 (v := (nI 30)) (by decide) ?_
  refine jr_calli0 (jrun_S (As := [.int p1, .int (-1), .int (nI 30)]) (st := []) K (metX1_isIn K.hG p1 (-1) (nI 30) _) mtX1_isIn q586 q585 rfl rfl (Nat.le_of_ble_eq_true rfl) (by decide) ⟨Nat.zero_le _, Nat.zero_le _⟩ dX1_length_4) (fun v4 => ?_)
  refine jr_bud (fun mc7 ms7 hmc7 hms7 => ?_)
  refine jrx_callv ⟨hmc7, hms7⟩ (jrunx_S (As := [.int v4]) (st := []) K (metX1_must K.hG mc7 ms7 v4 Ex _) mtX1_must q1108 q1107 rfl rfl (Nat.le_of_ble_eq_true rfl) (by decide) ⟨hmc7, hms7⟩ dX1_length_7) (fun x q => hEx.1 _ _ _ _ x q (fun _ h => nomatch h)) ?_
  refine jr_aload_n K dX1_length_10 rfl ?_
  refine jr_getA K gf_X1_19 dX1_length_11 (fun v11 => ?_)
  refine jr_iload_n K dX1_length_14 rfl ?_
  refine jr_put K pf_X1_240 dX1_length_15 rfl rfl ?_
  refine jr_aload_n K dX1_length_18 rfl ?_
  refine jr_iconst K dX1_length_19 (v := (nI 0)) (by decide) ?_
  refine jr_putZ K pf_X1_174 dX1_length_20 ?_
  exact hret _ _ _ _ dX1_length_23
theorem metX1_length (hG : jG l D S0 A0) (bc : Nat) (bs : Nat) (this : Nat) (p1 : Int32) (Ex : Nat → Nat → JP) (Qj : JP) : vx_Met l yX1_length (ws_ yX1_length cX1_length 2 none) (jrm 13 bc bs) (va_Pc [.ref this, .int p1] (jB D S0 (JX1_length bc bs this p1 Ex Qj))) (va_Qv Qj (fun σ t => jRep D S0.heap.size σ t.heap) (jA S0)) (jXC D S0 Ex) bc bs (jA S0) :=
  jx_start hG (by decide) (by decide) (Nat.le_of_ble_eq_true rfl) rfl fun p e s m below meth c K hr hEx => wX1_length K bc bs this p1 Ex Qj hEx (fun _ _ _ _ d => jr_xret jx_mq (jr_vret K hr d))
theorem wX0_length (K : JK p l R s m args meth c D S0 A0 3 cX0_length "MoveNotesLaw" 14) (htb : c.exceptionTable.toList = tableOf [(0, 5, 8, 13)]) (bc : Nat) (bs : Nat) (p0 : Nat) (p1 : Int32) (Qj : Int32 → JP) (hret : jRetI p l e R s m args below meth c Q D S0 3 cX0_length Qj) : JR p l e R s m args below meth c Q D S0 3 bc bs (JX0_length bc bs p0 p1 Qj) 0 [some (.ref p0), some (.int p1), none] [] := by
  unfold JX0_length
  refine jr_aload_n K dX0_length_0 rfl ?_
  refine jr_iload_n K dX0_length_1 rfl ?_
  refine jr_bud (fun mc2 ms2 hmc2 hms2 => ?_)
  refine jrx_callv ⟨hmc2, hms2⟩ (jrunx_V (As := [.int p1]) (st := []) (ci := 1) K (metX1_length K.hG mc2 ms2 p0 p1 _ _) mtX1_length mvX1_length q1332 rfl rfl rfl (Nat.le_of_ble_eq_true rfl) (by decide) ⟨hmc2, hms2⟩ dX0_length_2) (fun xx2 xq2 => ?_) ?_
  · refine jt_if (fun hx0 => ?_) (fun hx0 => ?_)
    · subst hx0
      refine jt_catch0 K htb rfl (by decide) (by decide) q831 q1088 ?_
      refine jr_astore_n K (L' := [some (.ref p0), some (.int p1), some (.ref xq2)]) dX0_length_8 (by decide) rfl rfl ?_
      refine jr_iconst K dX0_length_9 (v := (nI 1)) (by decide) ?_
      exact hret _ _ _ _ _ dX0_length_10
    exact JT.bot
  refine jr_goto K (tgt := 11) dX0_length_5 (by decide) ?_
  refine jr_iconst K dX0_length_11 (v := (nI 0)) (by decide) ?_
  exact hret _ _ _ _ _ dX0_length_12
theorem metX0_length (hG : jG l D S0 A0) (bc : Nat) (bs : Nat) (p0 : Nat) (p1 : Int32) (Qj : Int32 → JP) : Met l yX0_length (wsW_ yX0_length cX0_length 3 (some .int) [(0, 5, 8, 13)]) (jrm 14 bc bs) (va_Pc [.ref p0, .int p1] (jB D S0 (JX0_length bc bs p0 p1 Qj))) (va_Qi Qj (fun σ t => jRep D S0.heap.size σ t.heap) (jA S0)) bc bs (jA S0) :=
  jr_startW hG (by decide) (Nat.le_of_ble_eq_true rfl) rfl fun p e s m below meth c K hr hn htb => wX0_length K htb bc bs p0 p1 Qj (fun _ _ _ _ _ d => jr_iret K hr rfl d)
theorem wX1_picture (K : JK p l R s m args meth c D S0 A0 5 cX1_picture "MoveNotes" 14) (bc : Nat) (bs : Nat) (this : Nat) (p1 : Int32) (p2 : Int32) (p3 : Int32) (p4 : Int32) (Ex : Nat → Nat → JP) (Qj : Int32 → JP) (hEx : jThr p l e R s m args below meth c Q D S0 5 cX1_picture "MoveNotes" [] Ex) (hret : jRetI p l e R s m args below meth c Q D S0 5 cX1_picture Qj) : JR p l e R s m args below meth c Q D S0 5 bc bs (JX1_picture bc bs this p1 p2 p3 p4 Ex Qj) 0 [some (.ref this), some (.int p1), some (.int p2), some (.int p3), some (.int p4)] [] := by
  unfold JX1_picture
  refine jr_iload_n K dX1_picture_0 rfl ?_
  refine jr_bud (fun mc1 ms1 hmc1 hms1 => ?_)
  refine jrx_callv ⟨hmc1, hms1⟩ (jrunx_S (As := [.int p2]) (st := []) K (metX1_isSquare K.hG mc1 ms1 p2 Ex _) mtX1_isSquare q1192 q1191 rfl rfl (Nat.le_of_ble_eq_true rfl) (by decide) ⟨hmc1, hms1⟩ dX1_picture_1) (fun x q => hEx.1 _ _ _ _ x q (fun _ h => nomatch h)) ?_
  refine jr_aload_n K dX1_picture_4 rfl ?_
  refine jr_iload_n K dX1_picture_5 rfl ?_
  refine jr_iconst K dX1_picture_6 (v := (-1)) (by decide) ?_
  refine jr_bud (fun mc7 ms7 hmc7 hms7 => ?_)
  refine jrx_callv ⟨hmc7, hms7⟩ (jrunx_V (As := [.int p3, .int (-1)]) (st := []) (ci := 1) K (metX1_isKind K.hG mc7 ms7 this p3 (-1) Ex _) mtX1_isKind mvX1_isKind q1212 rfl rfl rfl (Nat.le_of_ble_eq_true rfl) (by decide) ⟨hmc7, hms7⟩ dX1_picture_7) (fun x q => hEx.1 _ _ _ _ x q (fun _ h => nomatch h)) ?_
  refine jr_iload_n K dX1_picture_10 rfl ?_
  refine jr_iconst K dX1_picture_11 (v := (nI 0)) (by decide) ?_
  refine jr_bipush K dX1_picture_12 (v := (nI 30)) (by decide) ?_
  refine jr_calli0 (jrun_S (As := [.int p1, .int (nI 0), .int (nI 30)]) (st := []) K (metX1_isIn K.hG p1 (nI 0) (nI 30) _) mtX1_isIn q586 q585 rfl rfl (Nat.le_of_ble_eq_true rfl) (by decide) ⟨Nat.zero_le _, Nat.zero_le _⟩ dX1_picture_14) (fun v14 => ?_)
  refine jr_join (fun (k40 : Int32 → JP) => ∀ (s0_40 : Int32), JR p l e R s m args below meth c Q D S0 5 ((bc - mc1) - mc7) ((bs - ms1) - ms7) (k40 s0_40) 40 [some (.ref this), some (.int p1), some (.int p2), some (.int p3), some (.int p4)] [.int s0_40]) ?_ (fun k40 hk40 => ?_)
  · intro s0_40
    refine jr_bud (fun mc40 ms40 hmc40 hms40 => ?_)
    refine jrx_callv ⟨hmc40, hms40⟩ (jrunx_S (As := [.int s0_40]) (st := []) K (metX1_must K.hG mc40 ms40 s0_40 Ex _) mtX1_must q1108 q1107 rfl rfl (Nat.le_of_ble_eq_true rfl) (by decide) ⟨hmc40, hms40⟩ dX1_picture_40) (fun x q => hEx.1 _ _ _ _ x q (fun _ h => nomatch h)) ?_
    refine jr_aload_n K dX1_picture_43 rfl ?_
    refine jr_getA K gf_X1_19 dX1_picture_44 (fun v44 => ?_)
    refine jr_getI K gf_X1_243 dX1_picture_47 (fun v47 => ?_)
    refine jr_bipush K dX1_picture_50 (v := (nI 10)) (by decide) ?_
    refine jr_join (fun (k60 : Int32 → JP) => ∀ (s0_60 : Int32), JR p l e R s m args below meth c Q D S0 5 (((bc - mc1) - mc7) - mc40) (((bs - ms1) - ms7) - ms40) (k60 s0_60) 60 [some (.ref this), some (.int p1), some (.int p2), some (.int p3), some (.int p4)] [.int s0_60]) ?_ (fun k60 hk60 => ?_)
    · intro s0_60
      refine jr_bud (fun mc60 ms60 hmc60 hms60 => ?_)
      refine jrx_callv ⟨hmc60, hms60⟩ (jrunx_S (As := [.int s0_60]) (st := []) K (metX1_mayBe K.hG mc60 ms60 s0_60 Ex _) mtX1_mayBe q1111 q1110 rfl rfl (Nat.le_of_ble_eq_true rfl) (by decide) ⟨hmc60, hms60⟩ dX1_picture_60) (fun x q => hEx.1 _ _ _ _ x q (fun _ h => nomatch h)) ?_
      refine jr_aload_n K dX1_picture_63 rfl ?_
      refine jr_getA K gf_X1_19 dX1_picture_64 (fun v64 => ?_)
      refine jr_getA K gf_X1_246 dX1_picture_67 (fun v67 => ?_)
      refine jr_aload_n K dX1_picture_70 rfl ?_
      refine jr_getA K gf_X1_19 dX1_picture_71 (fun v71 => ?_)
      refine jr_getI K gf_X1_243 dX1_picture_74 (fun v74 => ?_)
      refine jr_new K in_X24 rfl tyX24_ok dfo24 q1343 q1344 q136 dX1_picture_77 (fun v77 => ?_)
      refine jr_dup K dX1_picture_80 rfl ?_
      refine jr_iload_n K dX1_picture_81 rfl ?_
      refine jr_iload_n K dX1_picture_82 rfl ?_
      refine jr_iload_n K dX1_picture_83 rfl ?_
      refine jr_iload K dX1_picture_84 rfl ?_
      refine jr_callv0 (jrun_I (As := [.int p1, .int p2, .int p3, .int p4]) (st := [.ref v77, .int v74, .ref v67]) K (metX24_init K.hG v77 p1 p2 p3 p4 _) mtX24_init q1346 rfl q1345 rfl rfl (Nat.le_of_ble_eq_true rfl) (by decide) ⟨Nat.zero_le _, Nat.zero_le _⟩ dX1_picture_86) ?_
      refine jr_aast K (by decide) jfit_9_24 dX1_picture_89 ?_
      refine jr_aload_n K dX1_picture_90 rfl ?_
      refine jr_getA K gf_X1_19 dX1_picture_91 (fun v91 => ?_)
      refine jr_dup K dX1_picture_94 rfl ?_
      refine jr_getI K gf_X1_243 dX1_picture_95 (fun v95 => ?_)
      refine jr_iconst K dX1_picture_98 (v := (nI 1)) (by decide) ?_
      refine jr_iadd K dX1_picture_99 ?_
      refine jr_put K pf_X1_243 dX1_picture_100 rfl rfl ?_
      refine jr_aload_n K dX1_picture_103 rfl ?_
      refine jr_iconst K dX1_picture_104 (v := (nI 0)) (by decide) ?_
      refine jr_putZ K pf_X1_174 dX1_picture_105 ?_
      refine jr_aload_n K dX1_picture_108 rfl ?_
      refine jr_getA K gf_X1_19 dX1_picture_109 (fun v109 => ?_)
      refine jr_getI K gf_X1_243 dX1_picture_112 (fun v112 => ?_)
      exact hret _ _ _ _ _ dX1_picture_115
    refine jr_icmp_ge K (tgt := 59) dX1_picture_52 (by decide) ?_ ?_
    · refine jr_iconst K dX1_picture_59 (v := (nI 0)) (by decide) ?_
      exact jr_weak (hk60 (nI 0)) ⟨rfl, rfl, rfl, rfl, rfl, trivial⟩
    · refine jr_iconst K dX1_picture_55 (v := (nI 1)) (by decide) ?_
      refine jr_goto K (tgt := 60) dX1_picture_56 (by decide) ?_
      exact jr_weak (hk60 (nI 1)) ⟨rfl, rfl, rfl, rfl, rfl, trivial⟩
  refine jr_join (fun (k39 : JP) => JR p l e R s m args below meth c Q D S0 5 ((bc - mc1) - mc7) ((bs - ms1) - ms7) k39 39 [some (.ref this), some (.int p1), some (.int p2), some (.int p3), some (.int p4)] []) ?_ (fun k39 hk39 => ?_)
  · refine jr_iconst K dX1_picture_39 (v := (nI 0)) (by decide) ?_
    exact jr_weak (hk40 (nI 0)) ⟨rfl, rfl, rfl, rfl, rfl, trivial⟩
  refine jr_if_eq K (tgt := 39) dX1_picture_17 (by decide) ?_ ?_
  · exact jr_weak (hk39) ⟨rfl, rfl, rfl, rfl, rfl, trivial⟩
  · refine jr_iload_n K dX1_picture_20 rfl ?_
    refine jr_iconst K dX1_picture_21 (v := (-1)) (by decide) ?_
    refine jr_join (fun (k35 : JP) => JR p l e R s m args below meth c Q D S0 5 ((bc - mc1) - mc7) ((bs - ms1) - ms7) k35 35 [some (.ref this), some (.int p1), some (.int p2), some (.int p3), some (.int p4)] []) ?_ (fun k35 hk35 => ?_)
    · refine jr_iconst K dX1_picture_35 (v := (nI 1)) (by decide) ?_
      refine jr_goto K (tgt := 40) dX1_picture_36 (by decide) ?_
      exact jr_weak (hk40 (nI 1)) ⟨rfl, rfl, rfl, rfl, rfl, trivial⟩
    refine jr_icmp_eq K (tgt := 35) dX1_picture_22 (by decide) ?_ ?_
    · exact jr_weak (hk35) ⟨rfl, rfl, rfl, rfl, rfl, trivial⟩
    · refine jr_iload K dX1_picture_25 rfl ?_
      refine jr_iconst K dX1_picture_27 (v := (nI 0)) (by decide) ?_
      refine jr_iconst K dX1_picture_28 (v := (nI 1)) (by decide) ?_
      refine jr_calli0 (jrun_S (As := [.int p4, .int (nI 0), .int (nI 1)]) (st := []) K (metX1_isIn K.hG p4 (nI 0) (nI 1) _) mtX1_isIn q586 q585 rfl rfl (Nat.le_of_ble_eq_true rfl) (by decide) ⟨Nat.zero_le _, Nat.zero_le _⟩ dX1_picture_29) (fun v29 => ?_)
      refine jr_if_eq K (tgt := 39) dX1_picture_32 (by decide) ?_ ?_
      · exact jr_weak (hk39) ⟨rfl, rfl, rfl, rfl, rfl, trivial⟩
      · exact jr_weak (hk35) ⟨rfl, rfl, rfl, rfl, rfl, trivial⟩
theorem metX1_picture (hG : jG l D S0 A0) (bc : Nat) (bs : Nat) (this : Nat) (p1 : Int32) (p2 : Int32) (p3 : Int32) (p4 : Int32) (Ex : Nat → Nat → JP) (Qj : Int32 → JP) : vx_Met l yX1_picture (ws_ yX1_picture cX1_picture 5 (some .int)) (jrm 14 bc bs) (va_Pc [.ref this, .int p1, .int p2, .int p3, .int p4] (jB D S0 (JX1_picture bc bs this p1 p2 p3 p4 Ex Qj))) (va_Qi Qj (fun σ t => jRep D S0.heap.size σ t.heap) (jA S0)) (jXC D S0 Ex) bc bs (jA S0) :=
  jx_start hG (by decide) (by decide) (Nat.le_of_ble_eq_true rfl) rfl fun p e s m below meth c K hr hEx => wX1_picture K bc bs this p1 p2 p3 p4 Ex Qj hEx (fun _ _ _ _ _ d => jr_xret jx_mq (jr_iret K hr rfl d))
theorem wX0_picture (K : JK p l R s m args meth c D S0 A0 7 cX0_picture "MoveNotesLaw" 15) (htb : c.exceptionTable.toList = tableOf [(0, 14, 17, 25), (0, 14, 21, 13), (0, 14, 25, 15)]) (bc : Nat) (bs : Nat) (p0 : Nat) (p1 : Int32) (p2 : Int32) (p3 : Int32) (p4 : Int32) (p5 : Nat) (Qj : Int32 → JP) (hret : jRetI p l e R s m args below meth c Q D S0 7 cX0_picture Qj) : JR p l e R s m args below meth c Q D S0 7 bc bs (JX0_picture bc bs p0 p1 p2 p3 p4 p5 Qj) 0 [some (.ref p0), some (.int p1), some (.int p2), some (.int p3), some (.int p4), some (.ref p5), none] [] := by
  unfold JX0_picture
  refine jr_aload K dX0_picture_0 rfl ?_
  refine jr_iconst K dX0_picture_2 (v := (nI 0)) (by decide) ?_
  refine jr_aload_n K dX0_picture_3 rfl ?_
  refine jr_iload_n K dX0_picture_4 rfl ?_
  refine jr_iload_n K dX0_picture_5 rfl ?_
  refine jr_iload_n K dX0_picture_6 rfl ?_
  refine jr_iload K dX0_picture_7 rfl ?_
  refine jr_bud (fun mc9 ms9 hmc9 hms9 => ?_)
  refine jrx_calli ⟨hmc9, hms9⟩ (jrunx_V (As := [.int p1, .int p2, .int p3, .int p4]) (st := [.int (nI 0), .ref p5]) (ci := 1) K (metX1_picture K.hG mc9 ms9 p0 p1 p2 p3 p4 _ _) mtX1_picture mvX1_picture q1339 rfl rfl rfl (Nat.le_of_ble_eq_true rfl) (by decide) ⟨hmc9, hms9⟩ dX0_picture_9) (fun xx9 xq9 => ?_) (fun v9 => ?_)
  · refine jt_if (fun hx0 => ?_) (fun hx0 => ?_)
    · subst hx0
      refine jt_catch0 K htb rfl (by decide) (by decide) q1155 q1199 ?_
      refine jr_astore K (L' := [some (.ref p0), some (.int p1), some (.int p2), some (.int p3), some (.int p4), some (.ref p5), some (.ref xq9)]) dX0_picture_17 (by decide) rfl rfl ?_
      refine jr_iconst K dX0_picture_19 (v := (nI 1)) (by decide) ?_
      exact hret _ _ _ _ _ dX0_picture_20
    refine jt_if (fun hx1 => ?_) (fun hx1 => ?_)
    · subst hx1
      refine jt_catch1 K htb rfl (by decide) (by decide) q1155 (by decide) (jncast K (by decide +kernel)) q831 q1088 ?_
      refine jr_astore K (L' := [some (.ref p0), some (.int p1), some (.int p2), some (.int p3), some (.int p4), some (.ref p5), some (.ref xq9)]) dX0_picture_21 (by decide) rfl rfl ?_
      refine jr_iconst K dX0_picture_23 (v := (nI 2)) (by decide) ?_
      exact hret _ _ _ _ _ dX0_picture_24
    refine jt_if (fun hx2 => ?_) (fun hx2 => ?_)
    · subst hx2
      refine jt_catch2 K htb rfl (by decide) (by decide) q1155 (by decide) (jncast K (by decide +kernel)) q831 (by decide) (jncast K (by decide +kernel)) q832 q1115 ?_
      refine jr_astore K (L' := [some (.ref p0), some (.int p1), some (.int p2), some (.int p3), some (.int p4), some (.ref p5), some (.ref xq9)]) dX0_picture_25 (by decide) rfl rfl ?_
      refine jr_iconst K dX0_picture_27 (v := (nI 3)) (by decide) ?_
      exact hret _ _ _ _ _ dX0_picture_28
    exact JT.bot
  refine jr_i2l K dX0_picture_12 ?_
  refine jr_last K dX0_picture_13 ?_
  refine jr_goto K (tgt := 29) dX0_picture_14 (by decide) ?_
  refine jr_iconst K dX0_picture_29 (v := (nI 0)) (by decide) ?_
  exact hret _ _ _ _ _ dX0_picture_30
theorem metX0_picture (hG : jG l D S0 A0) (bc : Nat) (bs : Nat) (p0 : Nat) (p1 : Int32) (p2 : Int32) (p3 : Int32) (p4 : Int32) (p5 : Nat) (Qj : Int32 → JP) : Met l yX0_picture (wsW_ yX0_picture cX0_picture 7 (some .int) [(0, 14, 17, 25), (0, 14, 21, 13), (0, 14, 25, 15)]) (jrm 15 bc bs) (va_Pc [.ref p0, .int p1, .int p2, .int p3, .int p4, .ref p5] (jB D S0 (JX0_picture bc bs p0 p1 p2 p3 p4 p5 Qj))) (va_Qi Qj (fun σ t => jRep D S0.heap.size σ t.heap) (jA S0)) bc bs (jA S0) :=
  jr_startW hG (by decide) (Nat.le_of_ble_eq_true rfl) rfl fun p e s m below meth c K hr hn htb => wX0_picture K htb bc bs p0 p1 p2 p3 p4 p5 Qj (fun _ _ _ _ _ d => jr_iret K hr rfl d)
theorem wX1_allBooks (K : JK p l R s m args meth c D S0 A0 1 cX1_allBooks "MoveNotes" 12) (bc bs : Nat) (this : Nat) (Qj : Int32 → JP) (hret : jRetI p l e R s m args below meth c Q D S0 1 cX1_allBooks Qj) : JR p l e R s m args below meth c Q D S0 1 bc bs (JX1_allBooks this Qj) 0 [some (.ref this)] [] := by
  unfold JX1_allBooks
  refine jr_iconst K dX1_allBooks_0 (v := (nI 1)) (by decide) ?_
  refine jr_aload_n K dX1_allBooks_1 rfl ?_
  refine jr_getA K gf_X1_19 dX1_allBooks_2 (fun v2 => ?_)
  refine jr_getI K gf_X1_96 dX1_allBooks_5 (fun v5 => ?_)
  refine jr_ishl K dX1_allBooks_8 ?_
  refine jr_iconst K dX1_allBooks_9 (v := (nI 1)) (by decide) ?_
  refine jr_isub K dX1_allBooks_10 ?_
  exact hret _ _ _ _ _ dX1_allBooks_11
theorem metX1_allBooks (hG : jG l D S0 A0) (this : Nat) (Qj : Int32 → JP) : Met l yX1_allBooks (ws_ yX1_allBooks cX1_allBooks 1 (some .int)) (jrm 12 0 0) (va_Pc [.ref this] (jB D S0 (JX1_allBooks this Qj))) (va_Qi Qj (fun σ t => jRep D S0.heap.size σ t.heap) (jA S0)) 0 0 (jA S0) :=
  jr_start hG (by decide) (Nat.le_of_ble_eq_true rfl) rfl fun p e s m below meth c K hr hn => wX1_allBooks K _ _ this Qj (fun _ _ _ _ _ d => jr_iret K hr rfl d)
theorem wX1_lays_179 (K : JK p l R s m args meth c D S0 A0 6 cX1_lays "MoveNotes" 16) (bc bs : Nat) (this : Nat) (p1 : Int32) (Qj : JP) (v8 : Nat) (hret : jRetV p l e R s m args below meth c Q D S0 6 cX1_lays Qj) : ∀ (n : Nat) (x3_179 : Int32) (x4_179 : Int32), JR p l e R s m args below meth c Q D S0 6 bc bs (jit (FX1_lays_179 this p1 Qj v8) (fun _ _ => jbot) n x3_179 x4_179) 179 [some (.ref this), some (.int p1), some (.ref v8), some (.int x3_179), some (.int x4_179), none] [] := by
  intro n
  induction n with
  | zero =>
    intro x3_179 x4_179
    exact JR.bot
  | succ n ih179 =>
    intro x3_179 x4_179
    show JR p l e R s m args below meth c Q D S0 6 bc bs (FX1_lays_179 this p1 Qj v8 (jit (FX1_lays_179 this p1 Qj v8) (fun _ _ => jbot) n) x3_179 x4_179) 179 [some (.ref this), some (.int p1), some (.ref v8), some (.int x3_179), some (.int x4_179), none] []
    generalize jit (FX1_lays_179 this p1 Qj v8) (fun _ _ => jbot) n = rec179 at ih179 ⊢
    unfold FX1_lays_179
    refine jr_iload_n K dX1_lays_179 rfl ?_
    refine jr_join (fun (k188 : JP) => JR p l e R s m args below meth c Q D S0 6 bc bs k188 188 [some (.ref this), some (.int p1), some (.ref v8), some (.int x3_179), some (.int x4_179), none] []) ?_ (fun k188 hk188 => ?_)
    · refine jr_iload_n K dX1_lays_188 rfl ?_
      refine jr_join (fun (k248 : Int32 → JP) => ∀ (s0_248 : Int32), JR p l e R s m args below meth c Q D S0 6 bc bs (k248 s0_248) 248 [some (.ref this), some (.int p1), some (.ref v8), some (.int x3_179), some (.int x4_179), none] [.int s0_248]) ?_ (fun k248 hk248 => ?_)
      · intro s0_248
        refine jr_istore K (L' := [some (.ref this), some (.int p1), some (.ref v8), some (.int x3_179), some (.int x4_179), some (.int s0_248)]) dX1_lays_248 (by decide) rfl rfl ?_
        refine jr_iload K dX1_lays_250 rfl ?_
        refine jr_iconst K dX1_lays_252 (v := (-1)) (by decide) ?_
        refine jr_join (fun (k421 : Int32 → Int32 → JP) => ∀ (x3_421 : Int32) (x4_421 : Int32), JR p l e R s m args below meth c Q D S0 6 bc bs (k421 x3_421 x4_421) 421 [some (.ref this), some (.int p1), some (.ref v8), some (.int x3_421), some (.int x4_421), none] []) ?_ (fun k421 hk421 => ?_)
        · intro x3_421 x4_421
          refine jr_goto K (tgt := 179) dX1_lays_421 (by decide) ?_
          exact jr_weak (ih179 x3_421 x4_421) ⟨rfl, rfl, rfl, rfl, rfl, trivial⟩
        refine jr_join (fun (k331 : JP) => JR p l e R s m args below meth c Q D S0 6 bc bs k331 331 [some (.ref this), some (.int p1), some (.ref v8), some (.int x3_179), some (.int x4_179), none] []) ?_ (fun k331 hk331 => ?_)
        · refine jr_iload_n K dX1_lays_331 rfl ?_
          refine jr_join (fun (k407 : JP) => JR p l e R s m args below meth c Q D S0 6 bc bs k407 407 [some (.ref this), some (.int p1), some (.ref v8), some (.int x3_179), some (.int x4_179), none] []) ?_ (fun k407 hk407 => ?_)
          · refine jr_iinc K (v := (x4_179 + (-1))) (L' := [some (.ref this), some (.int p1), some (.ref v8), some (.int x3_179), some (.int (x4_179 + (-1))), none]) dX1_lays_407 rfl rfl (by decide) rfl rfl ?_
            refine jr_aload_n K dX1_lays_410 rfl ?_
            refine jr_getA K gf_X1_40 dX1_lays_411 (fun v411 => ?_)
            refine jr_iload_n K dX1_lays_414 rfl ?_
            refine jr_aald K (by decide) dX1_lays_415 (fun v415 => ?_)
            refine jr_iload K dX1_lays_416 rfl ?_
            refine jr_bipush K dX1_lays_418 (v := (nI 7)) (by decide) ?_
            refine jr_iast K dX1_lays_420 ?_
            exact jr_weak (hk421 x3_179 (x4_179 + (-1))) ⟨rfl, rfl, rfl, rfl, rfl, trivial⟩
          refine jr_if_le K (tgt := 407) dX1_lays_332 (by decide) ?_ ?_
          · exact jr_weak (hk407) ⟨rfl, rfl, rfl, rfl, rfl, trivial⟩
          · refine jr_aload_n K dX1_lays_335 rfl ?_
            refine jr_getA K gf_X1_19 dX1_lays_336 (fun v336 => ?_)
            refine jr_getA K gf_X1_237 dX1_lays_339 (fun v339 => ?_)
            refine jr_bipush K dX1_lays_342 (v := (nI 6)) (by decide) ?_
            refine jr_iald K dX1_lays_344 (fun v344 => ?_)
            refine jr_if_le K (tgt := 407) dX1_lays_345 (by decide) ?_ ?_
            · exact jr_weak (hk407) ⟨rfl, rfl, rfl, rfl, rfl, trivial⟩
            · refine jr_aload_n K dX1_lays_348 rfl ?_
              refine jr_getA K gf_X1_46 dX1_lays_349 (fun v349 => ?_)
              refine jr_iload_n K dX1_lays_352 rfl ?_
              refine jr_aald K (by decide) dX1_lays_353 (fun v353 => ?_)
              refine jr_iload K dX1_lays_354 rfl ?_
              refine jr_iald K dX1_lays_356 (fun v356 => ?_)
              refine jr_aload_n K dX1_lays_357 rfl ?_
              refine jr_getA K gf_X1_46 dX1_lays_358 (fun v358 => ?_)
              refine jr_iload_n K dX1_lays_361 rfl ?_
              refine jr_iconst K dX1_lays_362 (v := (nI 1)) (by decide) ?_
              refine jr_isub K dX1_lays_363 ?_
              refine jr_aald K (by decide) dX1_lays_364 (fun v364 => ?_)
              refine jr_iload K dX1_lays_365 rfl ?_
              refine jr_iald K dX1_lays_367 (fun v367 => ?_)
              refine jr_aload_n K dX1_lays_368 rfl ?_
              refine jr_getA K gf_X1_19 dX1_lays_369 (fun v369 => ?_)
              refine jr_getA K gf_X1_237 dX1_lays_372 (fun v372 => ?_)
              refine jr_bipush K dX1_lays_375 (v := (nI 6)) (by decide) ?_
              refine jr_iald K dX1_lays_377 (fun v377 => ?_)
              refine jr_iadd K dX1_lays_378 ?_
              refine jr_icmp_ne K (tgt := 407) dX1_lays_379 (by decide) ?_ ?_
              · exact jr_weak (hk407) ⟨rfl, rfl, rfl, rfl, rfl, trivial⟩
              · refine jr_iinc K (v := (x3_179 + (-1))) (L' := [some (.ref this), some (.int p1), some (.ref v8), some (.int (x3_179 + (-1))), some (.int x4_179), none]) dX1_lays_382 rfl rfl (by decide) rfl rfl ?_
                refine jr_aload_n K dX1_lays_385 rfl ?_
                refine jr_getA K gf_X1_43 dX1_lays_386 (fun v386 => ?_)
                refine jr_iload_n K dX1_lays_389 rfl ?_
                refine jr_aald K (by decide) dX1_lays_390 (fun v390 => ?_)
                refine jr_iload_n K dX1_lays_391 rfl ?_
                refine jr_iconst K dX1_lays_392 (v := (-1)) (by decide) ?_
                refine jr_iast K dX1_lays_393 ?_
                refine jr_aload_n K dX1_lays_394 rfl ?_
                refine jr_getA K gf_X1_52 dX1_lays_395 (fun v395 => ?_)
                refine jr_iload_n K dX1_lays_398 rfl ?_
                refine jr_dup2 K dX1_lays_399 rfl rfl ?_
                refine jr_iald K dX1_lays_400 (fun v400 => ?_)
                refine jr_iconst K dX1_lays_401 (v := (nI 1)) (by decide) ?_
                refine jr_iadd K dX1_lays_402 ?_
                refine jr_iast K dX1_lays_403 ?_
                refine jr_goto K (tgt := 421) dX1_lays_404 (by decide) ?_
                exact jr_weak (hk421 (x3_179 + (-1)) x4_179) ⟨rfl, rfl, rfl, rfl, rfl, trivial⟩
        refine jr_icmp_eq K (tgt := 331) dX1_lays_253 (by decide) ?_ ?_
        · exact jr_weak (hk331) ⟨rfl, rfl, rfl, rfl, rfl, trivial⟩
        · refine jr_aload_n K dX1_lays_256 rfl ?_
          refine jr_getA K gf_X1_46 dX1_lays_257 (fun v257 => ?_)
          refine jr_iload_n K dX1_lays_260 rfl ?_
          refine jr_aald K (by decide) dX1_lays_261 (fun v261 => ?_)
          refine jr_iload K dX1_lays_262 rfl ?_
          refine jr_iald K dX1_lays_264 (fun v264 => ?_)
          refine jr_aload_n K dX1_lays_265 rfl ?_
          refine jr_getA K gf_X1_46 dX1_lays_266 (fun v266 => ?_)
          refine jr_iload_n K dX1_lays_269 rfl ?_
          refine jr_iconst K dX1_lays_270 (v := (nI 1)) (by decide) ?_
          refine jr_isub K dX1_lays_271 ?_
          refine jr_aald K (by decide) dX1_lays_272 (fun v272 => ?_)
          refine jr_iload K dX1_lays_273 rfl ?_
          refine jr_iconst K dX1_lays_275 (v := (nI 1)) (by decide) ?_
          refine jr_isub K dX1_lays_276 ?_
          refine jr_iald K dX1_lays_277 (fun v277 => ?_)
          refine jr_iload K dX1_lays_278 rfl ?_
          refine jr_join (fun (k297 : Int32 → JP) => ∀ (s2_297 : Int32), JR p l e R s m args below meth c Q D S0 6 bc bs (k297 s2_297) 297 [some (.ref this), some (.int p1), some (.ref v8), some (.int x3_179), some (.int x4_179), some (.int s0_248)] [.int s2_297, .int v277, .int v264]) ?_ (fun k297 hk297 => ?_)
          · intro s2_297
            refine jr_iadd K dX1_lays_297 ?_
            refine jr_icmp_ne K (tgt := 331) dX1_lays_298 (by decide) ?_ ?_
            · exact jr_weak (hk331) ⟨rfl, rfl, rfl, rfl, rfl, trivial⟩
            · refine jr_iinc K (v := (x3_179 + (-1))) (L' := [some (.ref this), some (.int p1), some (.ref v8), some (.int (x3_179 + (-1))), some (.int x4_179), some (.int s0_248)]) dX1_lays_301 rfl rfl (by decide) rfl rfl ?_
              refine jr_iinc K (v := (x4_179 + (-1))) (L' := [some (.ref this), some (.int p1), some (.ref v8), some (.int (x3_179 + (-1))), some (.int (x4_179 + (-1))), some (.int s0_248)]) dX1_lays_304 rfl rfl (by decide) rfl rfl ?_
              refine jr_aload_n K dX1_lays_307 rfl ?_
              refine jr_getA K gf_X1_40 dX1_lays_308 (fun v308 => ?_)
              refine jr_iload_n K dX1_lays_311 rfl ?_
              refine jr_aald K (by decide) dX1_lays_312 (fun v312 => ?_)
              refine jr_iload K dX1_lays_313 rfl ?_
              refine jr_iload K dX1_lays_315 rfl ?_
              refine jr_iast K dX1_lays_317 ?_
              refine jr_aload_n K dX1_lays_318 rfl ?_
              refine jr_getA K gf_X1_43 dX1_lays_319 (fun v319 => ?_)
              refine jr_iload_n K dX1_lays_322 rfl ?_
              refine jr_aald K (by decide) dX1_lays_323 (fun v323 => ?_)
              refine jr_iload_n K dX1_lays_324 rfl ?_
              refine jr_iload K dX1_lays_325 rfl ?_
              refine jr_iast K dX1_lays_327 ?_
              refine jr_goto K (tgt := 421) dX1_lays_328 (by decide) ?_
              exact jr_weak (hk421 (x3_179 + (-1)) (x4_179 + (-1))) ⟨rfl, rfl, rfl, rfl, rfl, trivial⟩
          refine jr_if_ne K (tgt := 287) dX1_lays_280 (by decide) ?_ ?_
          · refine jr_aload_n K dX1_lays_287 rfl ?_
            refine jr_getA K gf_X1_19 dX1_lays_288 (fun v288 => ?_)
            refine jr_getA K gf_X1_237 dX1_lays_291 (fun v291 => ?_)
            refine jr_iload K dX1_lays_294 rfl ?_
            refine jr_iald K dX1_lays_296 (fun v296 => ?_)
            exact jr_weak (hk297 v296) ⟨rfl, rfl, rfl, rfl, rfl, rfl, trivial⟩
          · refine jr_iconst K dX1_lays_283 (v := (nI 0)) (by decide) ?_
            refine jr_goto K (tgt := 297) dX1_lays_284 (by decide) ?_
            exact jr_weak (hk297 (nI 0)) ⟨rfl, rfl, rfl, rfl, rfl, rfl, trivial⟩
      refine jr_join (fun (k247 : JP) => JR p l e R s m args below meth c Q D S0 6 bc bs k247 247 [some (.ref this), some (.int p1), some (.ref v8), some (.int x3_179), some (.int x4_179), none] []) ?_ (fun k247 hk247 => ?_)
      · refine jr_iconst K dX1_lays_247 (v := (-1)) (by decide) ?_
        exact jr_weak (hk248 (-1)) ⟨rfl, rfl, rfl, rfl, rfl, trivial⟩
      refine jr_if_le K (tgt := 247) dX1_lays_189 (by decide) ?_ ?_
      · exact jr_weak (hk247) ⟨rfl, rfl, rfl, rfl, rfl, trivial⟩
      · refine jr_iload K dX1_lays_192 rfl ?_
        refine jr_if_le K (tgt := 247) dX1_lays_194 (by decide) ?_ ?_
        · exact jr_weak (hk247) ⟨rfl, rfl, rfl, rfl, rfl, trivial⟩
        · refine jr_aload_n K dX1_lays_197 rfl ?_
          refine jr_getA K gf_X1_193 dX1_lays_198 (fun v198 => ?_)
          refine jr_iload K dX1_lays_201 rfl ?_
          refine jr_iconst K dX1_lays_203 (v := (nI 1)) (by decide) ?_
          refine jr_isub K dX1_lays_204 ?_
          refine jr_aald K (by decide) dX1_lays_205 (fun v205 => ?_)
          refine jr_aload_n K dX1_lays_206 rfl ?_
          refine jr_getI K gf_X1_182 dX1_lays_207 (fun v207 => ?_)
          refine jr_aload_n K dX1_lays_210 rfl ?_
          refine jr_getA K gf_X1_56 dX1_lays_211 (fun v211 => ?_)
          refine jr_iload_n K dX1_lays_214 rfl ?_
          refine jr_iconst K dX1_lays_215 (v := (nI 1)) (by decide) ?_
          refine jr_isub K dX1_lays_216 ?_
          refine jr_iald K dX1_lays_217 (fun v217 => ?_)
          refine jr_iload_n K dX1_lays_218 rfl ?_
          refine jr_iconst K dX1_lays_219 (v := (nI 1)) (by decide) ?_
          refine jr_isub K dX1_lays_220 ?_
          refine jr_iconst K dX1_lays_221 (v := (nI 2)) (by decide) ?_
          refine jr_irem K dX1_lays_222 (by decide) ?_
          refine jr_aload_n K dX1_lays_223 rfl ?_
          refine jr_getA K gf_X1_31 dX1_lays_224 (fun v224 => ?_)
          refine jr_getA K gf_X1_272 dX1_lays_227 (fun v227 => ?_)
          refine jr_iload_n K dX1_lays_230 rfl ?_
          refine jr_iconst K dX1_lays_231 (v := (nI 1)) (by decide) ?_
          refine jr_isub K dX1_lays_232 ?_
          refine jr_iald K dX1_lays_233 (fun v233 => ?_)
          refine jr_aload_n K dX1_lays_234 rfl ?_
          refine jr_getA K gf_X1_19 dX1_lays_235 (fun v235 => ?_)
          refine jr_getA K gf_X1_237 dX1_lays_238 (fun v238 => ?_)
          refine jr_calli0 (jrun_V (As := [.int v207, .int v217, .int (jrem (x3_179 - (nI 1)) (nI 2)), .int v233, .ref v238]) (st := []) (ci := 23) K (metX23_slip K.hG v205 v207 v217 (jrem (x3_179 - (nI 1)) (nI 2)) v233 v238 _) mtX23_slip mvX23_slip q795 rfl rfl rfl (Nat.le_of_ble_eq_true rfl) (by decide) ⟨Nat.zero_le _, Nat.zero_le _⟩ dX1_lays_241) (fun v241 => ?_)
          refine jr_goto K (tgt := 248) dX1_lays_244 (by decide) ?_
          exact jr_weak (hk248 v241) ⟨rfl, rfl, rfl, rfl, rfl, trivial⟩
    refine jr_if_gt K (tgt := 188) dX1_lays_180 (by decide) ?_ ?_
    · exact jr_weak (hk188) ⟨rfl, rfl, rfl, rfl, rfl, trivial⟩
    · refine jr_iload K dX1_lays_183 rfl ?_
      refine jr_if_le K (tgt := 424) dX1_lays_185 (by decide) ?_ ?_
      · exact hret _ _ _ _ dX1_lays_424
      · exact jr_weak (hk188) ⟨rfl, rfl, rfl, rfl, rfl, trivial⟩
theorem wX1_lays_59 (K : JK p l R s m args meth c D S0 A0 6 cX1_lays "MoveNotes" 16) (bc bs : Nat) (this : Nat) (p1 : Int32) (v8 : Nat) (k158 : JP) (hk158 : JR p l e R s m args below meth c Q D S0 6 bc bs k158 158 [some (.ref this), some (.int p1), some (.ref v8), none, none, none] []) : ∀ (n : Nat) (x3_59 : Int32), JR p l e R s m args below meth c Q D S0 6 bc bs (jit (FX1_lays_59 this v8 k158) (fun _ => jbot) n x3_59) 59 [some (.ref this), some (.int p1), some (.ref v8), some (.int x3_59), none, none] [] := by
  intro n
  induction n with
  | zero =>
    intro x3_59
    exact JR.bot
  | succ n ih59 =>
    intro x3_59
    show JR p l e R s m args below meth c Q D S0 6 bc bs (FX1_lays_59 this v8 k158 (jit (FX1_lays_59 this v8 k158) (fun _ => jbot) n) x3_59) 59 [some (.ref this), some (.int p1), some (.ref v8), some (.int x3_59), none, none] []
    generalize jit (FX1_lays_59 this v8 k158) (fun _ => jbot) n = rec59 at ih59 ⊢
    unfold FX1_lays_59
    refine jr_iload_n K dX1_lays_59 rfl ?_
    refine jr_aload_n K dX1_lays_60 rfl ?_
    refine jr_getA K gf_X1_31 dX1_lays_61 (fun v61 => ?_)
    refine jr_getI K gf_X1_269 dX1_lays_64 (fun v64 => ?_)
    refine jr_icmp_ge K (tgt := 158) dX1_lays_67 (by decide) ?_ ?_
    · exact jr_weak (hk158) ⟨rfl, rfl, rfl, trivial⟩
    · refine jr_aload_n K dX1_lays_70 rfl ?_
      refine jr_getA K gf_X1_31 dX1_lays_71 (fun v71 => ?_)
      refine jr_getA K gf_X1_272 dX1_lays_74 (fun v74 => ?_)
      refine jr_iload_n K dX1_lays_77 rfl ?_
      refine jr_iald K dX1_lays_78 (fun v78 => ?_)
      refine jr_istore K (L' := [some (.ref this), some (.int p1), some (.ref v8), some (.int x3_59), some (.int v78), none]) dX1_lays_79 (by decide) rfl rfl ?_
      refine jr_aload_n K dX1_lays_81 rfl ?_
      refine jr_getA K gf_X1_31 dX1_lays_82 (fun v82 => ?_)
      refine jr_aload_n K dX1_lays_85 rfl ?_
      refine jr_aload_n K dX1_lays_86 rfl ?_
      refine jr_getA K gf_X1_46 dX1_lays_87 (fun v87 => ?_)
      refine jr_iload_n K dX1_lays_90 rfl ?_
      refine jr_aald K (by decide) dX1_lays_91 (fun v91 => ?_)
      refine jr_aload_n K dX1_lays_92 rfl ?_
      refine jr_getA K gf_X1_46 dX1_lays_93 (fun v93 => ?_)
      refine jr_iload_n K dX1_lays_96 rfl ?_
      refine jr_iconst K dX1_lays_97 (v := (nI 1)) (by decide) ?_
      refine jr_iadd K dX1_lays_98 ?_
      refine jr_aald K (by decide) dX1_lays_99 (fun v99 => ?_)
      refine jr_aload_n K dX1_lays_100 rfl ?_
      refine jr_getA K gf_X1_65 dX1_lays_101 (fun v101 => ?_)
      refine jr_getA K gf_X1_169 dX1_lays_104 (fun v104 => ?_)
      refine jr_iload K dX1_lays_107 rfl ?_
      refine jr_bipush K dX1_lays_109 (v := (nI 36)) (by decide) ?_
      refine jr_idiv K dX1_lays_111 (by decide) ?_
      refine jr_iald K dX1_lays_112 (fun v112 => ?_)
      refine jr_iload_n K dX1_lays_113 rfl ?_
      refine jr_iconst K dX1_lays_114 (v := (nI 2)) (by decide) ?_
      refine jr_irem K dX1_lays_115 (by decide) ?_
      refine jr_iload K dX1_lays_116 rfl ?_
      refine jr_calli0 (jrun_VN (As := [.ref v8, .ref v91, .ref v99, .int v112, .int (jrem x3_59 (nI 2)), .int v78]) (st := []) (ci := 10) K (metX10_leads K.hG v82 v8 v91 v99 v112 (jrem x3_59 (nI 2)) v78 _) mtX10_leads mvX10_leads q793 rfl rfl rfl (Nat.le_of_ble_eq_true rfl) (by decide) ⟨Nat.zero_le _, Nat.zero_le _⟩ dX1_lays_118) (fun v118 => ?_)
      refine jr_istore K (L' := [some (.ref this), some (.int p1), some (.ref v8), some (.int x3_59), some (.int v78), some (.int v118)]) dX1_lays_121 (by decide) rfl rfl ?_
      refine jr_aload_n K dX1_lays_123 rfl ?_
      refine jr_getA K gf_X1_56 dX1_lays_124 (fun v124 => ?_)
      refine jr_iload_n K dX1_lays_127 rfl ?_
      refine jr_aload_n K dX1_lays_128 rfl ?_
      refine jr_getA K gf_X1_65 dX1_lays_129 (fun v129 => ?_)
      refine jr_getA K gf_X1_169 dX1_lays_132 (fun v132 => ?_)
      refine jr_iload K dX1_lays_135 rfl ?_
      refine jr_bipush K dX1_lays_137 (v := (nI 36)) (by decide) ?_
      refine jr_idiv K dX1_lays_139 (by decide) ?_
      refine jr_iald K dX1_lays_140 (fun v140 => ?_)
      refine jr_iast K dX1_lays_141 ?_
      refine jr_aload_n K dX1_lays_142 rfl ?_
      refine jr_getA K gf_X1_65 dX1_lays_143 (fun v143 => ?_)
      refine jr_iload K dX1_lays_146 rfl ?_
      refine jr_calli0 (jrun_V (As := [.int v78]) (st := []) (ci := 8) K (metX8_goes K.hG v143 v78 _) mtX8_goes mvX8_goes q794 rfl rfl rfl (Nat.le_of_ble_eq_true rfl) (by decide) ⟨Nat.zero_le _, Nat.zero_le _⟩ dX1_lays_148) (fun v148 => ?_)
      refine jr_pop K dX1_lays_151 rfl ?_
      refine jr_iinc K (v := (x3_59 + (nI 1))) (L' := [some (.ref this), some (.int p1), some (.ref v8), some (.int (x3_59 + (nI 1))), some (.int v78), some (.int v118)]) dX1_lays_152 rfl rfl (by decide) rfl rfl ?_
      refine jr_goto K (tgt := 59) dX1_lays_155 (by decide) ?_
      exact jr_weak (ih59 (x3_59 + (nI 1))) ⟨rfl, rfl, rfl, rfl, trivial⟩
theorem wX1_lays_26 (K : JK p l R s m args meth c D S0 A0 6 cX1_lays "MoveNotes" 16) (bc bs : Nat) (this : Nat) (p1 : Int32) (v8 : Nat) (k57 : JP) (hk57 : JR p l e R s m args below meth c Q D S0 6 bc bs k57 57 [some (.ref this), some (.int p1), some (.ref v8), none, none, none] []) : ∀ (n : Nat) (x3_26 : Int32), JR p l e R s m args below meth c Q D S0 6 bc bs (jit (FX1_lays_26 this k57) (fun _ => jbot) n x3_26) 26 [some (.ref this), some (.int p1), some (.ref v8), some (.int x3_26), none, none] [] := by
  intro n
  induction n with
  | zero =>
    intro x3_26
    exact JR.bot
  | succ n ih26 =>
    intro x3_26
    show JR p l e R s m args below meth c Q D S0 6 bc bs (FX1_lays_26 this k57 (jit (FX1_lays_26 this k57) (fun _ => jbot) n) x3_26) 26 [some (.ref this), some (.int p1), some (.ref v8), some (.int x3_26), none, none] []
    generalize jit (FX1_lays_26 this k57) (fun _ => jbot) n = rec26 at ih26 ⊢
    unfold FX1_lays_26
    refine jr_iload_n K dX1_lays_26 rfl ?_
    refine jr_bipush K dX1_lays_27 (v := (nI 24)) (by decide) ?_
    refine jr_icmp_gt K (tgt := 57) dX1_lays_29 (by decide) ?_ ?_
    · exact jr_weak (hk57) ⟨rfl, rfl, rfl, trivial⟩
    · refine jr_aload_n K dX1_lays_32 rfl ?_
      refine jr_getA K gf_X1_46 dX1_lays_33 (fun v33 => ?_)
      refine jr_iconst K dX1_lays_36 (v := (nI 0)) (by decide) ?_
      refine jr_aald K (by decide) dX1_lays_37 (fun v37 => ?_)
      refine jr_iload_n K dX1_lays_38 rfl ?_
      refine jr_iload_n K dX1_lays_39 rfl ?_
      refine jr_join (fun (k50 : Int32 → JP) => ∀ (s2_50 : Int32), JR p l e R s m args below meth c Q D S0 6 bc bs (k50 s2_50) 50 [some (.ref this), some (.int p1), some (.ref v8), some (.int x3_26), none, none] [.int s2_50, .int x3_26, .ref v37]) ?_ (fun k50 hk50 => ?_)
      · intro s2_50
        refine jr_iast K dX1_lays_50 ?_
        refine jr_iinc K (v := (x3_26 + (nI 1))) (L' := [some (.ref this), some (.int p1), some (.ref v8), some (.int (x3_26 + (nI 1))), none, none]) dX1_lays_51 rfl rfl (by decide) rfl rfl ?_
        refine jr_goto K (tgt := 26) dX1_lays_54 (by decide) ?_
        exact jr_weak (ih26 (x3_26 + (nI 1))) ⟨rfl, rfl, rfl, rfl, trivial⟩
      refine jr_if_ne K (tgt := 47) dX1_lays_40 (by decide) ?_ ?_
      · refine jr_ldcw K (v := (nI 1000000)) q792 (by decide) dX1_lays_47 ?_
        exact jr_weak (hk50 (nI 1000000)) ⟨rfl, rfl, rfl, rfl, trivial⟩
      · refine jr_iconst K dX1_lays_43 (v := (nI 0)) (by decide) ?_
        refine jr_goto K (tgt := 50) dX1_lays_44 (by decide) ?_
        exact jr_weak (hk50 (nI 0)) ⟨rfl, rfl, rfl, rfl, trivial⟩
theorem wX1_lays (K : JK p l R s m args meth c D S0 A0 6 cX1_lays "MoveNotes" 16) (bc bs : Nat) (this : Nat) (p1 : Int32) (Qj : JP) (hret : jRetV p l e R s m args below meth c Q D S0 6 cX1_lays Qj) : JR p l e R s m args below meth c Q D S0 6 bc bs (JX1_lays this p1 Qj) 0 [some (.ref this), some (.int p1), none, none, none, none] [] := by
  unfold JX1_lays
  refine jr_aload_n K dX1_lays_0 rfl ?_
  refine jr_getA K gf_X1_19 dX1_lays_1 (fun v1 => ?_)
  refine jr_getA K gf_X1_99 dX1_lays_4 (fun v4 => ?_)
  refine jr_iload_n K dX1_lays_7 rfl ?_
  refine jr_aald K (by decide) dX1_lays_8 (fun v8 => ?_)
  refine jr_astore_n K (L' := [some (.ref this), some (.int p1), some (.ref v8), none, none, none]) dX1_lays_9 (by decide) rfl rfl ?_
  refine jr_aload_n K dX1_lays_10 rfl ?_
  refine jr_getA K gf_X1_65 dX1_lays_11 (fun v11 => ?_)
  refine jr_aload_n K dX1_lays_14 rfl ?_
  refine jr_getA K gf_X1_19 dX1_lays_15 (fun v15 => ?_)
  refine jr_getA K gf_X1_166 dX1_lays_18 (fun v18 => ?_)
  refine jr_callv0 (jrun_V (As := [.ref v18]) (st := []) (ci := 8) K (metX8_be K.hG v11 v18 _) mtX8_be mvX8_be q791 rfl rfl rfl (Nat.le_of_ble_eq_true rfl) (by decide) ⟨Nat.zero_le _, Nat.zero_le _⟩ dX1_lays_21) ?_
  refine jr_iconst K dX1_lays_24 (v := (nI 0)) (by decide) ?_
  refine jr_istore_n K (L' := [some (.ref this), some (.int p1), some (.ref v8), some (.int (nI 0)), none, none]) dX1_lays_25 (by decide) rfl rfl ?_
  refine jr_ex (fun n26 => ?_)
  refine jr_weak (wX1_lays_26 K bc bs this p1 v8 _ ?_ n26 (nI 0)) ⟨rfl, rfl, rfl, rfl, trivial⟩
  · refine jr_iconst K dX1_lays_57 (v := (nI 0)) (by decide) ?_
    refine jr_istore_n K (L' := [some (.ref this), some (.int p1), some (.ref v8), some (.int (nI 0)), none, none]) dX1_lays_58 (by decide) rfl rfl ?_
    refine jr_ex (fun n59 => ?_)
    refine jr_weak (wX1_lays_59 K bc bs this p1 v8 _ ?_ n59 (nI 0)) ⟨rfl, rfl, rfl, rfl, trivial⟩
    · refine jr_aload_n K dX1_lays_158 rfl ?_
      refine jr_getA K gf_X1_52 dX1_lays_159 (fun v159 => ?_)
      refine jr_iload_n K dX1_lays_162 rfl ?_
      refine jr_iconst K dX1_lays_163 (v := (nI 0)) (by decide) ?_
      refine jr_iast K dX1_lays_164 ?_
      refine jr_aload_n K dX1_lays_165 rfl ?_
      refine jr_getA K gf_X1_31 dX1_lays_166 (fun v166 => ?_)
      refine jr_getI K gf_X1_269 dX1_lays_169 (fun v169 => ?_)
      refine jr_istore_n K (L' := [some (.ref this), some (.int p1), some (.ref v8), some (.int v169), none, none]) dX1_lays_172 (by decide) rfl rfl ?_
      refine jr_aload_n K dX1_lays_173 rfl ?_
      refine jr_getI K gf_X1_107 dX1_lays_174 (fun v174 => ?_)
      refine jr_istore K (L' := [some (.ref this), some (.int p1), some (.ref v8), some (.int v169), some (.int v174), none]) dX1_lays_177 (by decide) rfl rfl ?_
      refine jr_ex (fun n179 => ?_)
      refine jr_weak (wX1_lays_179 K bc bs this p1 Qj v8 hret n179 v169 v174) ⟨rfl, rfl, rfl, rfl, rfl, trivial⟩
theorem metX1_lays (hG : jG l D S0 A0) (this : Nat) (p1 : Int32) (Qj : JP) : Met l yX1_lays (ws_ yX1_lays cX1_lays 6 none) (jrm 16 0 0) (va_Pc [.ref this, .int p1] (jB D S0 (JX1_lays this p1 Qj))) (va_Qv Qj (fun σ t => jRep D S0.heap.size σ t.heap) (jA S0)) 0 0 (jA S0) :=
  jr_start hG (by decide) (Nat.le_of_ble_eq_true rfl) rfl fun p e s m below meth c K hr hn => wX1_lays K _ _ this p1 Qj (fun _ _ _ _ d => jr_vret K hr d)
theorem wX1_reads_37 (K : JK p l R s m args meth c D S0 A0 2 cX1_reads "MoveNotes" 100) (bc bs : Nat) (this : Nat) (k66 : JP) (hk66 : JR p l e R s m args below meth c Q D S0 2 bc bs k66 66 [some (.ref this), none] []) : ∀ (n : Nat) (x1_37 : Int32), JR p l e R s m args below meth c Q D S0 2 bc bs (jit (FX1_reads_37 this k66) (fun _ => jbot) n x1_37) 37 [some (.ref this), some (.int x1_37)] [] := by
  intro n
  induction n with
  | zero =>
    intro x1_37
    exact JR.bot
  | succ n ih37 =>
    intro x1_37
    show JR p l e R s m args below meth c Q D S0 2 bc bs (FX1_reads_37 this k66 (jit (FX1_reads_37 this k66) (fun _ => jbot) n) x1_37) 37 [some (.ref this), some (.int x1_37)] []
    generalize jit (FX1_reads_37 this k66) (fun _ => jbot) n = rec37 at ih37 ⊢
    unfold FX1_reads_37
    refine jr_iload_n K dX1_reads_37 rfl ?_
    refine jr_aload_n K dX1_reads_38 rfl ?_
    refine jr_getA K gf_X1_19 dX1_reads_39 (fun v39 => ?_)
    refine jr_getI K gf_X1_96 dX1_reads_42 (fun v42 => ?_)
    refine jr_icmp_ge K (tgt := 66) dX1_reads_45 (by decide) ?_ ?_
    · exact jr_weak (hk66) ⟨rfl, trivial⟩
    · refine jr_aload_n K dX1_reads_48 rfl ?_
      refine jr_getI K gf_X1_253 dX1_reads_49 (fun v49 => ?_)
      refine jr_if_lt K (tgt := 66) dX1_reads_52 (by decide) ?_ ?_
      · exact jr_weak (hk66) ⟨rfl, trivial⟩
      · refine jr_aload_n K dX1_reads_55 rfl ?_
        refine jr_iload_n K dX1_reads_56 rfl ?_
        refine jr_callv0 (jrun_V (As := [.int x1_37]) (st := []) (ci := 1) K (metX1_lays K.hG this x1_37 _) mtX1_lays mvX1_lays q787 rfl rfl rfl (Nat.le_of_ble_eq_true rfl) (by decide) ⟨Nat.zero_le _, Nat.zero_le _⟩ dX1_reads_57) ?_
        refine jr_iinc K (v := (x1_37 + (nI 1))) (L' := [some (.ref this), some (.int (x1_37 + (nI 1)))]) dX1_reads_60 rfl rfl (by decide) rfl rfl ?_
        refine jr_goto K (tgt := 37) dX1_reads_63 (by decide) ?_
        exact jr_weak (ih37 (x1_37 + (nI 1))) ⟨rfl, rfl, trivial⟩
theorem wX1_reads (K : JK p l R s m args meth c D S0 A0 2 cX1_reads "MoveNotes" 100) (bc bs : Nat) (this : Nat) (Qj : Int32 → JP) (hret : jRetI p l e R s m args below meth c Q D S0 2 cX1_reads Qj) : JR p l e R s m args below meth c Q D S0 2 bc bs (JX1_reads this Qj) 0 [some (.ref this), none] [] := by
  unfold JX1_reads
  refine jr_aload_n K dX1_reads_0 rfl ?_
  refine jr_getI K gf_X1_174 dX1_reads_1 (fun v1 => ?_)
  refine jr_if_eq K (tgt := 12) dX1_reads_4 (by decide) ?_ ?_
  · refine jr_aload_n K dX1_reads_12 rfl ?_
    refine jr_getA K gf_X1_31 dX1_reads_13 (fun v13 => ?_)
    refine jr_iconst K dX1_reads_16 (v := (nI 0)) (by decide) ?_
    refine jr_putZ K pf_X1_256 dX1_reads_17 ?_
    refine jr_aload_n K dX1_reads_20 rfl ?_
    refine jr_aload_n K dX1_reads_21 rfl ?_
    refine jr_getA K gf_X1_31 dX1_reads_22 (fun v22 => ?_)
    refine jr_aload_n K dX1_reads_25 rfl ?_
    refine jr_calli0 (jrun_V (As := []) (st := [.ref v22, .ref this]) (ci := 1) K (metX1_allBooks K.hG this _) mtX1_allBooks mvX1_allBooks q600 rfl rfl rfl (Nat.le_of_ble_eq_true rfl) (by decide) ⟨Nat.zero_le _, Nat.zero_le _⟩ dX1_reads_26) (fun v26 => ?_)
    refine jr_calli0 (jrun_V (As := [.int v26]) (st := [.ref this]) (ci := 10) K (metX10_least K.hG v22 v26 _) mtX10_least mvX10_least q604 rfl rfl rfl (Nat.le_of_ble_eq_true rfl) (by decide) ⟨Nat.zero_le _, Nat.zero_le _⟩ dX1_reads_29) (fun v29 => ?_)
    refine jr_put K pf_X1_253 dX1_reads_32 rfl rfl ?_
    refine jr_iconst K dX1_reads_35 (v := (nI 0)) (by decide) ?_
    refine jr_istore_n K (L' := [some (.ref this), some (.int (nI 0))]) dX1_reads_36 (by decide) rfl rfl ?_
    refine jr_ex (fun n37 => ?_)
    refine jr_weak (wX1_reads_37 K bc bs this _ ?_ n37 (nI 0)) ⟨rfl, rfl, trivial⟩
    · refine jr_aload_n K dX1_reads_66 rfl ?_
      refine jr_iconst K dX1_reads_67 (v := (nI 1)) (by decide) ?_
      refine jr_putZ K pf_X1_174 dX1_reads_68 ?_
      refine jr_aload_n K dX1_reads_71 rfl ?_
      refine jr_getI K gf_X1_253 dX1_reads_72 (fun v72 => ?_)
      exact hret _ _ _ _ _ dX1_reads_75
  · refine jr_aload_n K dX1_reads_7 rfl ?_
    refine jr_getI K gf_X1_253 dX1_reads_8 (fun v8 => ?_)
    exact hret _ _ _ _ _ dX1_reads_11
theorem metX1_reads (hG : jG l D S0 A0) (this : Nat) (Qj : Int32 → JP) : Met l yX1_reads (ws_ yX1_reads cX1_reads 2 (some .int)) (jrm 100 0 0) (va_Pc [.ref this] (jB D S0 (JX1_reads this Qj))) (va_Qi Qj (fun σ t => jRep D S0.heap.size σ t.heap) (jA S0)) 0 0 (jA S0) :=
  jr_start hG (by decide) (Nat.le_of_ble_eq_true rfl) rfl fun p e s m below meth c K hr hn => wX1_reads K _ _ this Qj (fun _ _ _ _ _ d => jr_iret K hr rfl d)
theorem wX1_least (K : JK p l R s m args meth c D S0 A0 1 cX1_least "MoveNotes" 101) (bc bs : Nat) (this : Nat) (Qj : Int32 → JP) (hret : jRetI p l e R s m args below meth c Q D S0 1 cX1_least Qj) : JR p l e R s m args below meth c Q D S0 1 bc bs (JX1_least this Qj) 0 [some (.ref this)] [] := by
  unfold JX1_least
  refine jr_aload_n K dX1_least_0 rfl ?_
  refine jr_calli0 (jrun_V (As := []) (st := []) (ci := 1) K (metX1_reads K.hG this _) mtX1_reads mvX1_reads q596 rfl rfl rfl (Nat.le_of_ble_eq_true rfl) (by decide) ⟨Nat.zero_le _, Nat.zero_le _⟩ dX1_least_1) (fun v1 => ?_)
  exact hret _ _ _ _ _ dX1_least_4
theorem metX1_least (hG : jG l D S0 A0) (this : Nat) (Qj : Int32 → JP) : Met l yX1_least (ws_ yX1_least cX1_least 1 (some .int)) (jrm 101 0 0) (va_Pc [.ref this] (jB D S0 (JX1_least this Qj))) (va_Qi Qj (fun σ t => jRep D S0.heap.size σ t.heap) (jA S0)) 0 0 (jA S0) :=
  jr_start hG (by decide) (Nat.le_of_ble_eq_true rfl) rfl fun p e s m below meth c K hr hn => wX1_least K _ _ this Qj (fun _ _ _ _ _ d => jr_iret K hr rfl d)
theorem wX1_many (K : JK p l R s m args meth c D S0 A0 1 cX1_many "MoveNotes" 101) (bc bs : Nat) (this : Nat) (Qj : Int32 → JP) (hret : jRetI p l e R s m args below meth c Q D S0 1 cX1_many Qj) : JR p l e R s m args below meth c Q D S0 1 bc bs (JX1_many this Qj) 0 [some (.ref this)] [] := by
  unfold JX1_many
  refine jr_aload_n K dX1_many_0 rfl ?_
  refine jr_calli0 (jrun_V (As := []) (st := []) (ci := 1) K (metX1_reads K.hG this _) mtX1_reads mvX1_reads q596 rfl rfl rfl (Nat.le_of_ble_eq_true rfl) (by decide) ⟨Nat.zero_le _, Nat.zero_le _⟩ dX1_many_1) (fun v1 => ?_)
  refine jr_if_ge K (tgt := 14) dX1_many_4 (by decide) ?_ ?_
  · refine jr_aload_n K dX1_many_14 rfl ?_
    refine jr_getA K gf_X1_31 dX1_many_15 (fun v15 => ?_)
    refine jr_getI K gf_X1_286 dX1_many_18 (fun v18 => ?_)
    exact hret _ _ _ _ _ dX1_many_21
  · refine jr_aload_n K dX1_many_7 rfl ?_
    refine jr_getI K gf_X1_253 dX1_many_8 (fun v8 => ?_)
    refine jr_goto K (tgt := 21) dX1_many_11 (by decide) ?_
    exact hret _ _ _ _ _ dX1_many_21
theorem metX1_many (hG : jG l D S0 A0) (this : Nat) (Qj : Int32 → JP) : Met l yX1_many (ws_ yX1_many cX1_many 1 (some .int)) (jrm 101 0 0) (va_Pc [.ref this] (jB D S0 (JX1_many this Qj))) (va_Qi Qj (fun σ t => jRep D S0.heap.size σ t.heap) (jA S0)) 0 0 (jA S0) :=
  jr_start hG (by decide) (Nat.le_of_ble_eq_true rfl) rfl fun p e s m below meth c K hr hn => wX1_many K _ _ this Qj (fun _ _ _ _ _ d => jr_iret K hr rfl d)
theorem wX1_read (K : JK p l R s m args meth c D S0 A0 2 cX1_read "MoveNotes" 101) (bc : Nat) (bs : Nat) (this : Nat) (p1 : Int32) (Ex : Nat → Nat → JP) (Qj : Int32 → JP) (hEx : jThr p l e R s m args below meth c Q D S0 2 cX1_read "MoveNotes" [] Ex) (hret : jRetI p l e R s m args below meth c Q D S0 2 cX1_read Qj) : JR p l e R s m args below meth c Q D S0 2 bc bs (JX1_read bc bs this p1 Ex Qj) 0 [some (.ref this), some (.int p1)] [] := by
  unfold JX1_read
  refine jr_iload_n K dX1_read_0 rfl ?_
  refine jr_iconst K dX1_read_1 (v := (-1)) (by decide) ?_
  refine jr_join (fun (k10 : Int32 → JP) => ∀ (s0_10 : Int32), JR p l e R s m args below meth c Q D S0 2 bc bs (k10 s0_10) 10 [some (.ref this), some (.int p1)] [.int s0_10]) ?_ (fun k10 hk10 => ?_)
  · intro s0_10
    refine jr_bud (fun mc10 ms10 hmc10 hms10 => ?_)
    refine jrx_callv ⟨hmc10, hms10⟩ (jrunx_S (As := [.int s0_10]) (st := []) K (metX1_must K.hG mc10 ms10 s0_10 Ex _) mtX1_must q1108 q1107 rfl rfl (Nat.le_of_ble_eq_true rfl) (by decide) ⟨hmc10, hms10⟩ dX1_read_10) (fun x q => hEx.1 _ _ _ _ x q (fun _ h => nomatch h)) ?_
    refine jr_aload_n K dX1_read_13 rfl ?_
    refine jr_calli0 (jrun_V (As := []) (st := []) (ci := 1) K (metX1_reads K.hG this _) mtX1_reads mvX1_reads q596 rfl rfl rfl (Nat.le_of_ble_eq_true rfl) (by decide) ⟨Nat.zero_le _, Nat.zero_le _⟩ dX1_read_14) (fun v14 => ?_)
    refine jr_if_ge K (tgt := 25) dX1_read_17 (by decide) ?_ ?_
    · refine jr_iload_n K dX1_read_25 rfl ?_
      refine jr_iconst K dX1_read_26 (v := (-1)) (by decide) ?_
      refine jr_icmp_ne K (tgt := 40) dX1_read_27 (by decide) ?_ ?_
      · refine jr_iload_n K dX1_read_40 rfl ?_
        refine jr_aload_n K dX1_read_41 rfl ?_
        refine jr_getA K gf_X1_31 dX1_read_42 (fun v42 => ?_)
        refine jr_getI K gf_X1_269 dX1_read_45 (fun v45 => ?_)
        refine jr_icmp_ge K (tgt := 63) dX1_read_48 (by decide) ?_ ?_
        · refine jr_bipush K dX1_read_63 (v := (-3)) (by decide) ?_
          exact hret _ _ _ _ _ dX1_read_65
        · refine jr_aload_n K dX1_read_51 rfl ?_
          refine jr_getA K gf_X1_31 dX1_read_52 (fun v52 => ?_)
          refine jr_getA K gf_X1_272 dX1_read_55 (fun v55 => ?_)
          refine jr_iload_n K dX1_read_58 rfl ?_
          refine jr_iald K dX1_read_59 (fun v59 => ?_)
          refine jr_goto K (tgt := 65) dX1_read_60 (by decide) ?_
          exact hret _ _ _ _ _ dX1_read_65
      · refine jr_aload_n K dX1_read_30 rfl ?_
        refine jr_getA K gf_X1_31 dX1_read_31 (fun v31 => ?_)
        refine jr_getI K gf_X1_269 dX1_read_34 (fun v34 => ?_)
        refine jr_goto K (tgt := 65) dX1_read_37 (by decide) ?_
        exact hret _ _ _ _ _ dX1_read_65
    · refine jr_aload_n K dX1_read_20 rfl ?_
      refine jr_getI K gf_X1_253 dX1_read_21 (fun v21 => ?_)
      exact hret _ _ _ _ _ dX1_read_24
  refine jr_icmp_lt K (tgt := 9) dX1_read_2 (by decide) ?_ ?_
  · refine jr_iconst K dX1_read_9 (v := (nI 0)) (by decide) ?_
    exact jr_weak (hk10 (nI 0)) ⟨rfl, rfl, trivial⟩
  · refine jr_iconst K dX1_read_5 (v := (nI 1)) (by decide) ?_
    refine jr_goto K (tgt := 10) dX1_read_6 (by decide) ?_
    exact jr_weak (hk10 (nI 1)) ⟨rfl, rfl, trivial⟩
theorem metX1_read (hG : jG l D S0 A0) (bc : Nat) (bs : Nat) (this : Nat) (p1 : Int32) (Ex : Nat → Nat → JP) (Qj : Int32 → JP) : vx_Met l yX1_read (ws_ yX1_read cX1_read 2 (some .int)) (jrm 101 bc bs) (va_Pc [.ref this, .int p1] (jB D S0 (JX1_read bc bs this p1 Ex Qj))) (va_Qi Qj (fun σ t => jRep D S0.heap.size σ t.heap) (jA S0)) (jXC D S0 Ex) bc bs (jA S0) :=
  jx_start hG (by decide) (by decide) (Nat.le_of_ble_eq_true rfl) rfl fun p e s m below meth c K hr hEx => wX1_read K bc bs this p1 Ex Qj hEx (fun _ _ _ _ _ d => jr_xret jx_mq (jr_iret K hr rfl d))
theorem wX0_read (K : JK p l R s m args meth c D S0 A0 4 cX0_read "MoveNotesLaw" 102) (htb : c.exceptionTable.toList = tableOf [(0, 9, 12, 13)]) (bc : Nat) (bs : Nat) (p0 : Nat) (p1 : Int32) (p2 : Nat) (Qj : Int32 → JP) (hret : jRetI p l e R s m args below meth c Q D S0 4 cX0_read Qj) : JR p l e R s m args below meth c Q D S0 4 bc bs (JX0_read bc bs p0 p1 p2 Qj) 0 [some (.ref p0), some (.int p1), some (.ref p2), none] [] := by
  unfold JX0_read
  refine jr_aload_n K dX0_read_0 rfl ?_
  refine jr_iconst K dX0_read_1 (v := (nI 0)) (by decide) ?_
  refine jr_aload_n K dX0_read_2 rfl ?_
  refine jr_iload_n K dX0_read_3 rfl ?_
  refine jr_bud (fun mc4 ms4 hmc4 hms4 => ?_)
  refine jrx_calli ⟨hmc4, hms4⟩ (jrunx_V (As := [.int p1]) (st := [.int (nI 0), .ref p2]) (ci := 1) K (metX1_read K.hG mc4 ms4 p0 p1 _ _) mtX1_read mvX1_read q1366 rfl rfl rfl (Nat.le_of_ble_eq_true rfl) (by decide) ⟨hmc4, hms4⟩ dX0_read_4) (fun xx4 xq4 => ?_) (fun v4 => ?_)
  · refine jt_if (fun hx0 => ?_) (fun hx0 => ?_)
    · subst hx0
      refine jt_catch0 K htb rfl (by decide) (by decide) q831 q1088 ?_
      refine jr_astore_n K (L' := [some (.ref p0), some (.int p1), some (.ref p2), some (.ref xq4)]) dX0_read_12 (by decide) rfl rfl ?_
      refine jr_iconst K dX0_read_13 (v := (nI 1)) (by decide) ?_
      exact hret _ _ _ _ _ dX0_read_14
    exact JT.bot
  refine jr_i2l K dX0_read_7 ?_
  refine jr_last K dX0_read_8 ?_
  refine jr_goto K (tgt := 15) dX0_read_9 (by decide) ?_
  refine jr_iconst K dX0_read_15 (v := (nI 0)) (by decide) ?_
  exact hret _ _ _ _ _ dX0_read_16
theorem metX0_read (hG : jG l D S0 A0) (bc : Nat) (bs : Nat) (p0 : Nat) (p1 : Int32) (p2 : Nat) (Qj : Int32 → JP) : Met l yX0_read (wsW_ yX0_read cX0_read 4 (some .int) [(0, 9, 12, 13)]) (jrm 102 bc bs) (va_Pc [.ref p0, .int p1, .ref p2] (jB D S0 (JX0_read bc bs p0 p1 p2 Qj))) (va_Qi Qj (fun σ t => jRep D S0.heap.size σ t.heap) (jA S0)) bc bs (jA S0) :=
  jr_startW hG (by decide) (Nat.le_of_ble_eq_true rfl) rfl fun p e s m below meth c K hr hn htb => wX0_read K htb bc bs p0 p1 p2 Qj (fun _ _ _ _ _ d => jr_iret K hr rfl d)
theorem wX1_readNext (K : JK p l R s m args meth c D S0 A0 2 cX1_readNext "MoveNotes" 101) (bc : Nat) (bs : Nat) (this : Nat) (p1 : Int32) (Ex : Nat → Nat → JP) (Qj : Int32 → JP) (hEx : jThr p l e R s m args below meth c Q D S0 2 cX1_readNext "MoveNotes" [] Ex) (hret : jRetI p l e R s m args below meth c Q D S0 2 cX1_readNext Qj) : JR p l e R s m args below meth c Q D S0 2 bc bs (JX1_readNext bc bs this p1 Ex Qj) 0 [some (.ref this), some (.int p1)] [] := by
  unfold JX1_readNext
  refine jr_iload_n K dX1_readNext_0 rfl ?_
  refine jr_iconst K dX1_readNext_1 (v := (-1)) (by decide) ?_
  refine jr_join (fun (k10 : Int32 → JP) => ∀ (s0_10 : Int32), JR p l e R s m args below meth c Q D S0 2 bc bs (k10 s0_10) 10 [some (.ref this), some (.int p1)] [.int s0_10]) ?_ (fun k10 hk10 => ?_)
  · intro s0_10
    refine jr_bud (fun mc10 ms10 hmc10 hms10 => ?_)
    refine jrx_callv ⟨hmc10, hms10⟩ (jrunx_S (As := [.int s0_10]) (st := []) K (metX1_must K.hG mc10 ms10 s0_10 Ex _) mtX1_must q1108 q1107 rfl rfl (Nat.le_of_ble_eq_true rfl) (by decide) ⟨hmc10, hms10⟩ dX1_readNext_10) (fun x q => hEx.1 _ _ _ _ x q (fun _ h => nomatch h)) ?_
    refine jr_aload_n K dX1_readNext_13 rfl ?_
    refine jr_calli0 (jrun_V (As := []) (st := []) (ci := 1) K (metX1_reads K.hG this _) mtX1_reads mvX1_reads q596 rfl rfl rfl (Nat.le_of_ble_eq_true rfl) (by decide) ⟨Nat.zero_le _, Nat.zero_le _⟩ dX1_readNext_14) (fun v14 => ?_)
    refine jr_if_ge K (tgt := 25) dX1_readNext_17 (by decide) ?_ ?_
    · refine jr_aload_n K dX1_readNext_25 rfl ?_
      refine jr_getA K gf_X1_31 dX1_readNext_26 (fun v26 => ?_)
      refine jr_getI K gf_X1_286 dX1_readNext_29 (fun v29 => ?_)
      refine jr_iconst K dX1_readNext_32 (v := (nI 2)) (by decide) ?_
      refine jr_icmp_ge K (tgt := 39) dX1_readNext_33 (by decide) ?_ ?_
      · refine jr_iload_n K dX1_readNext_39 rfl ?_
        refine jr_iconst K dX1_readNext_40 (v := (-1)) (by decide) ?_
        refine jr_icmp_ne K (tgt := 54) dX1_readNext_41 (by decide) ?_ ?_
        · refine jr_iload_n K dX1_readNext_54 rfl ?_
          refine jr_aload_n K dX1_readNext_55 rfl ?_
          refine jr_getA K gf_X1_31 dX1_readNext_56 (fun v56 => ?_)
          refine jr_getI K gf_X1_287 dX1_readNext_59 (fun v59 => ?_)
          refine jr_icmp_ge K (tgt := 77) dX1_readNext_62 (by decide) ?_ ?_
          · refine jr_bipush K dX1_readNext_77 (v := (-3)) (by decide) ?_
            exact hret _ _ _ _ _ dX1_readNext_79
          · refine jr_aload_n K dX1_readNext_65 rfl ?_
            refine jr_getA K gf_X1_31 dX1_readNext_66 (fun v66 => ?_)
            refine jr_getA K gf_X1_290 dX1_readNext_69 (fun v69 => ?_)
            refine jr_iload_n K dX1_readNext_72 rfl ?_
            refine jr_iald K dX1_readNext_73 (fun v73 => ?_)
            refine jr_goto K (tgt := 79) dX1_readNext_74 (by decide) ?_
            exact hret _ _ _ _ _ dX1_readNext_79
        · refine jr_aload_n K dX1_readNext_44 rfl ?_
          refine jr_getA K gf_X1_31 dX1_readNext_45 (fun v45 => ?_)
          refine jr_getI K gf_X1_287 dX1_readNext_48 (fun v48 => ?_)
          refine jr_goto K (tgt := 79) dX1_readNext_51 (by decide) ?_
          exact hret _ _ _ _ _ dX1_readNext_79
      · refine jr_bipush K dX1_readNext_36 (v := (-3)) (by decide) ?_
        exact hret _ _ _ _ _ dX1_readNext_38
    · refine jr_aload_n K dX1_readNext_20 rfl ?_
      refine jr_getI K gf_X1_253 dX1_readNext_21 (fun v21 => ?_)
      exact hret _ _ _ _ _ dX1_readNext_24
  refine jr_icmp_lt K (tgt := 9) dX1_readNext_2 (by decide) ?_ ?_
  · refine jr_iconst K dX1_readNext_9 (v := (nI 0)) (by decide) ?_
    exact jr_weak (hk10 (nI 0)) ⟨rfl, rfl, trivial⟩
  · refine jr_iconst K dX1_readNext_5 (v := (nI 1)) (by decide) ?_
    refine jr_goto K (tgt := 10) dX1_readNext_6 (by decide) ?_
    exact jr_weak (hk10 (nI 1)) ⟨rfl, rfl, trivial⟩
theorem metX1_readNext (hG : jG l D S0 A0) (bc : Nat) (bs : Nat) (this : Nat) (p1 : Int32) (Ex : Nat → Nat → JP) (Qj : Int32 → JP) : vx_Met l yX1_readNext (ws_ yX1_readNext cX1_readNext 2 (some .int)) (jrm 101 bc bs) (va_Pc [.ref this, .int p1] (jB D S0 (JX1_readNext bc bs this p1 Ex Qj))) (va_Qi Qj (fun σ t => jRep D S0.heap.size σ t.heap) (jA S0)) (jXC D S0 Ex) bc bs (jA S0) :=
  jx_start hG (by decide) (by decide) (Nat.le_of_ble_eq_true rfl) rfl fun p e s m below meth c K hr hEx => wX1_readNext K bc bs this p1 Ex Qj hEx (fun _ _ _ _ _ d => jr_xret jx_mq (jr_iret K hr rfl d))
theorem wX0_readNext (K : JK p l R s m args meth c D S0 A0 4 cX0_readNext "MoveNotesLaw" 102) (htb : c.exceptionTable.toList = tableOf [(0, 9, 12, 13)]) (bc : Nat) (bs : Nat) (p0 : Nat) (p1 : Int32) (p2 : Nat) (Qj : Int32 → JP) (hret : jRetI p l e R s m args below meth c Q D S0 4 cX0_readNext Qj) : JR p l e R s m args below meth c Q D S0 4 bc bs (JX0_readNext bc bs p0 p1 p2 Qj) 0 [some (.ref p0), some (.int p1), some (.ref p2), none] [] := by
  unfold JX0_readNext
  refine jr_aload_n K dX0_readNext_0 rfl ?_
  refine jr_iconst K dX0_readNext_1 (v := (nI 0)) (by decide) ?_
  refine jr_aload_n K dX0_readNext_2 rfl ?_
  refine jr_iload_n K dX0_readNext_3 rfl ?_
  refine jr_bud (fun mc4 ms4 hmc4 hms4 => ?_)
  refine jrx_calli ⟨hmc4, hms4⟩ (jrunx_V (As := [.int p1]) (st := [.int (nI 0), .ref p2]) (ci := 1) K (metX1_readNext K.hG mc4 ms4 p0 p1 _ _) mtX1_readNext mvX1_readNext q1373 rfl rfl rfl (Nat.le_of_ble_eq_true rfl) (by decide) ⟨hmc4, hms4⟩ dX0_readNext_4) (fun xx4 xq4 => ?_) (fun v4 => ?_)
  · refine jt_if (fun hx0 => ?_) (fun hx0 => ?_)
    · subst hx0
      refine jt_catch0 K htb rfl (by decide) (by decide) q831 q1088 ?_
      refine jr_astore_n K (L' := [some (.ref p0), some (.int p1), some (.ref p2), some (.ref xq4)]) dX0_readNext_12 (by decide) rfl rfl ?_
      refine jr_iconst K dX0_readNext_13 (v := (nI 1)) (by decide) ?_
      exact hret _ _ _ _ _ dX0_readNext_14
    exact JT.bot
  refine jr_i2l K dX0_readNext_7 ?_
  refine jr_last K dX0_readNext_8 ?_
  refine jr_goto K (tgt := 15) dX0_readNext_9 (by decide) ?_
  refine jr_iconst K dX0_readNext_15 (v := (nI 0)) (by decide) ?_
  exact hret _ _ _ _ _ dX0_readNext_16
theorem metX0_readNext (hG : jG l D S0 A0) (bc : Nat) (bs : Nat) (p0 : Nat) (p1 : Int32) (p2 : Nat) (Qj : Int32 → JP) : Met l yX0_readNext (wsW_ yX0_readNext cX0_readNext 4 (some .int) [(0, 9, 12, 13)]) (jrm 102 bc bs) (va_Pc [.ref p0, .int p1, .ref p2] (jB D S0 (JX0_readNext bc bs p0 p1 p2 Qj))) (va_Qi Qj (fun σ t => jRep D S0.heap.size σ t.heap) (jA S0)) bc bs (jA S0) :=
  jr_startW hG (by decide) (Nat.le_of_ble_eq_true rfl) rfl fun p e s m below meth c K hr hn htb => wX0_readNext K htb bc bs p0 p1 p2 Qj (fun _ _ _ _ _ d => jr_iret K hr rfl d)
theorem wX1_slip (K : JK p l R s m args meth c D S0 A0 3 cX1_slip "MoveNotes" 101) (bc : Nat) (bs : Nat) (this : Nat) (p1 : Int32) (p2 : Int32) (Ex : Nat → Nat → JP) (Qj : Int32 → JP) (hEx : jThr p l e R s m args below meth c Q D S0 3 cX1_slip "MoveNotes" [] Ex) (hret : jRetI p l e R s m args below meth c Q D S0 3 cX1_slip Qj) : JR p l e R s m args below meth c Q D S0 3 bc bs (JX1_slip bc bs this p1 p2 Ex Qj) 0 [some (.ref this), some (.int p1), some (.int p2)] [] := by
  unfold JX1_slip
  refine jr_aload_n K dX1_slip_0 rfl ?_
  refine jr_iload_n K dX1_slip_1 rfl ?_
  refine jr_iload_n K dX1_slip_2 rfl ?_
  refine jr_bud (fun mc3 ms3 hmc3 hms3 => ?_)
  refine jrx_callv ⟨hmc3, hms3⟩ (jrunx_V (As := [.int p1, .int p2]) (st := []) (ci := 1) K (metX1_isNote K.hG mc3 ms3 this p1 p2 Ex _) mtX1_isNote mvX1_isNote q1279 rfl rfl rfl (Nat.le_of_ble_eq_true rfl) (by decide) ⟨hmc3, hms3⟩ dX1_slip_3) (fun x q => hEx.1 _ _ _ _ x q (fun _ h => nomatch h)) ?_
  refine jr_aload_n K dX1_slip_6 rfl ?_
  refine jr_calli0 (jrun_V (As := []) (st := []) (ci := 1) K (metX1_reads K.hG this _) mtX1_reads mvX1_reads q596 rfl rfl rfl (Nat.le_of_ble_eq_true rfl) (by decide) ⟨Nat.zero_le _, Nat.zero_le _⟩ dX1_slip_7) (fun v7 => ?_)
  refine jr_if_ge K (tgt := 20) dX1_slip_10 (by decide) ?_ ?_
  · refine jr_aload_n K dX1_slip_20 rfl ?_
    refine jr_getA K gf_X1_40 dX1_slip_21 (fun v21 => ?_)
    refine jr_iload_n K dX1_slip_24 rfl ?_
    refine jr_aald K (by decide) dX1_slip_25 (fun v25 => ?_)
    refine jr_iload_n K dX1_slip_26 rfl ?_
    refine jr_iald K dX1_slip_27 (fun v27 => ?_)
    exact hret _ _ _ _ _ dX1_slip_28
  · refine jr_aload_n K dX1_slip_13 rfl ?_
    refine jr_getI K gf_X1_253 dX1_slip_14 (fun v14 => ?_)
    refine jr_goto K (tgt := 28) dX1_slip_17 (by decide) ?_
    exact hret _ _ _ _ _ dX1_slip_28
theorem metX1_slip (hG : jG l D S0 A0) (bc : Nat) (bs : Nat) (this : Nat) (p1 : Int32) (p2 : Int32) (Ex : Nat → Nat → JP) (Qj : Int32 → JP) : vx_Met l yX1_slip (ws_ yX1_slip cX1_slip 3 (some .int)) (jrm 101 bc bs) (va_Pc [.ref this, .int p1, .int p2] (jB D S0 (JX1_slip bc bs this p1 p2 Ex Qj))) (va_Qi Qj (fun σ t => jRep D S0.heap.size σ t.heap) (jA S0)) (jXC D S0 Ex) bc bs (jA S0) :=
  jx_start hG (by decide) (by decide) (Nat.le_of_ble_eq_true rfl) rfl fun p e s m below meth c K hr hEx => wX1_slip K bc bs this p1 p2 Ex Qj hEx (fun _ _ _ _ _ d => jr_xret jx_mq (jr_iret K hr rfl d))
theorem wX0_slip (K : JK p l R s m args meth c D S0 A0 5 cX0_slip "MoveNotesLaw" 102) (htb : c.exceptionTable.toList = tableOf [(0, 10, 13, 25)]) (bc : Nat) (bs : Nat) (p0 : Nat) (p1 : Int32) (p2 : Int32) (p3 : Nat) (Qj : Int32 → JP) (hret : jRetI p l e R s m args below meth c Q D S0 5 cX0_slip Qj) : JR p l e R s m args below meth c Q D S0 5 bc bs (JX0_slip bc bs p0 p1 p2 p3 Qj) 0 [some (.ref p0), some (.int p1), some (.int p2), some (.ref p3), none] [] := by
  unfold JX0_slip
  refine jr_aload_n K dX0_slip_0 rfl ?_
  refine jr_iconst K dX0_slip_1 (v := (nI 0)) (by decide) ?_
  refine jr_aload_n K dX0_slip_2 rfl ?_
  refine jr_iload_n K dX0_slip_3 rfl ?_
  refine jr_iload_n K dX0_slip_4 rfl ?_
  refine jr_bud (fun mc5 ms5 hmc5 hms5 => ?_)
  refine jrx_calli ⟨hmc5, hms5⟩ (jrunx_V (As := [.int p1, .int p2]) (st := [.int (nI 0), .ref p3]) (ci := 1) K (metX1_slip K.hG mc5 ms5 p0 p1 p2 _ _) mtX1_slip mvX1_slip q1380 rfl rfl rfl (Nat.le_of_ble_eq_true rfl) (by decide) ⟨hmc5, hms5⟩ dX0_slip_5) (fun xx5 xq5 => ?_) (fun v5 => ?_)
  · refine jt_if (fun hx0 => ?_) (fun hx0 => ?_)
    · subst hx0
      refine jt_catch0 K htb rfl (by decide) (by decide) q1155 q1199 ?_
      refine jr_astore K (L' := [some (.ref p0), some (.int p1), some (.int p2), some (.ref p3), some (.ref xq5)]) dX0_slip_13 (by decide) rfl rfl ?_
      refine jr_iconst K dX0_slip_15 (v := (nI 1)) (by decide) ?_
      exact hret _ _ _ _ _ dX0_slip_16
    exact JT.bot
  refine jr_i2l K dX0_slip_8 ?_
  refine jr_last K dX0_slip_9 ?_
  refine jr_goto K (tgt := 17) dX0_slip_10 (by decide) ?_
  refine jr_iconst K dX0_slip_17 (v := (nI 0)) (by decide) ?_
  exact hret _ _ _ _ _ dX0_slip_18
theorem metX0_slip (hG : jG l D S0 A0) (bc : Nat) (bs : Nat) (p0 : Nat) (p1 : Int32) (p2 : Int32) (p3 : Nat) (Qj : Int32 → JP) : Met l yX0_slip (wsW_ yX0_slip cX0_slip 5 (some .int) [(0, 10, 13, 25)]) (jrm 102 bc bs) (va_Pc [.ref p0, .int p1, .int p2, .ref p3] (jB D S0 (JX0_slip bc bs p0 p1 p2 p3 Qj))) (va_Qi Qj (fun σ t => jRep D S0.heap.size σ t.heap) (jA S0)) bc bs (jA S0) :=
  jr_startW hG (by decide) (Nat.le_of_ble_eq_true rfl) rfl fun p e s m below meth c K hr hn htb => wX0_slip K htb bc bs p0 p1 p2 p3 Qj (fun _ _ _ _ _ d => jr_iret K hr rfl d)
theorem wX1_slips_41 (K : JK p l R s m args meth c D S0 A0 6 cX1_slips "MoveNotes" 101) (bc : Nat) (bs : Nat) (this : Nat) (p1 : Int32) (p2 : Int32) (Qj : Int32 → JP) (mc2 : Nat) (ms2 : Nat) (v2 : Nat) (mc7 : Nat) (ms7 : Nat) (hret : jRetI p l e R s m args below meth c Q D S0 6 cX1_slips Qj) : ∀ (n : Nat) (x4_41 : Int32) (x5_41 : Int32), JR p l e R s m args below meth c Q D S0 6 ((bc - mc2) - mc7) ((bs - ms2) - ms7) (jit (FX1_slips_41 this p1 p2 Qj v2) (fun _ _ => jbot) n x4_41 x5_41) 41 [some (.ref this), some (.int p1), some (.int p2), some (.ref v2), some (.int x4_41), some (.int x5_41)] [] := by
  intro n
  induction n with
  | zero =>
    intro x4_41 x5_41
    exact JR.bot
  | succ n ih41 =>
    intro x4_41 x5_41
    show JR p l e R s m args below meth c Q D S0 6 ((bc - mc2) - mc7) ((bs - ms2) - ms7) (FX1_slips_41 this p1 p2 Qj v2 (jit (FX1_slips_41 this p1 p2 Qj v2) (fun _ _ => jbot) n) x4_41 x5_41) 41 [some (.ref this), some (.int p1), some (.int p2), some (.ref v2), some (.int x4_41), some (.int x5_41)] []
    generalize jit (FX1_slips_41 this p1 p2 Qj v2) (fun _ _ => jbot) n = rec41 at ih41 ⊢
    unfold FX1_slips_41
    refine jr_iload K dX1_slips_41 rfl ?_
    refine jr_aload_n K dX1_slips_43 rfl ?_
    refine jr_getI K gf_X1_107 dX1_slips_44 (fun v44 => ?_)
    refine jr_icmp_ge K (tgt := 79) dX1_slips_47 (by decide) ?_ ?_
    · refine jr_iload K dX1_slips_79 rfl ?_
      exact hret _ _ _ _ _ dX1_slips_81
    · refine jr_iload K dX1_slips_50 rfl ?_
      refine jr_aload_n K dX1_slips_52 rfl ?_
      refine jr_getA K gf_X1_40 dX1_slips_53 (fun v53 => ?_)
      refine jr_iload_n K dX1_slips_56 rfl ?_
      refine jr_aald K (by decide) dX1_slips_57 (fun v57 => ?_)
      refine jr_iload K dX1_slips_58 rfl ?_
      refine jr_iald K dX1_slips_60 (fun v60 => ?_)
      refine jr_iload_n K dX1_slips_61 rfl ?_
      refine jr_join (fun (k70 : Int32 → JP) => ∀ (s1_70 : Int32), JR p l e R s m args below meth c Q D S0 6 ((bc - mc2) - mc7) ((bs - ms2) - ms7) (k70 s1_70) 70 [some (.ref this), some (.int p1), some (.int p2), some (.ref v2), none, some (.int x5_41)] [.int s1_70, .int x4_41]) ?_ (fun k70 hk70 => ?_)
      · intro s1_70
        refine jr_iadd K dX1_slips_70 ?_
        refine jr_istore K (L' := [some (.ref this), some (.int p1), some (.int p2), some (.ref v2), some (.int (x4_41 + s1_70)), some (.int x5_41)]) dX1_slips_71 (by decide) rfl rfl ?_
        refine jr_iinc K (v := (x5_41 + (nI 1))) (L' := [some (.ref this), some (.int p1), some (.int p2), some (.ref v2), some (.int (x4_41 + s1_70)), some (.int (x5_41 + (nI 1)))]) dX1_slips_73 rfl rfl (by decide) rfl rfl ?_
        refine jr_goto K (tgt := 41) dX1_slips_76 (by decide) ?_
        exact jr_weak (ih41 (x4_41 + s1_70) (x5_41 + (nI 1))) ⟨rfl, rfl, rfl, rfl, rfl, rfl, trivial⟩
      refine jr_icmp_ne K (tgt := 69) dX1_slips_62 (by decide) ?_ ?_
      · refine jr_iconst K dX1_slips_69 (v := (nI 0)) (by decide) ?_
        exact jr_weak (hk70 (nI 0)) ⟨rfl, rfl, rfl, rfl, rfl, trivial⟩
      · refine jr_iconst K dX1_slips_65 (v := (nI 1)) (by decide) ?_
        refine jr_goto K (tgt := 70) dX1_slips_66 (by decide) ?_
        exact jr_weak (hk70 (nI 1)) ⟨rfl, rfl, rfl, rfl, rfl, trivial⟩
theorem wX1_slips (K : JK p l R s m args meth c D S0 A0 6 cX1_slips "MoveNotes" 101) (bc : Nat) (bs : Nat) (this : Nat) (p1 : Int32) (p2 : Int32) (Ex : Nat → Nat → JP) (Qj : Int32 → JP) (hEx : jThr p l e R s m args below meth c Q D S0 6 cX1_slips "MoveNotes" [] Ex) (hret : jRetI p l e R s m args below meth c Q D S0 6 cX1_slips Qj) : JR p l e R s m args below meth c Q D S0 6 bc bs (JX1_slips bc bs this p1 p2 Ex Qj) 0 [some (.ref this), some (.int p1), some (.int p2), none, none, none] [] := by
  unfold JX1_slips
  refine jr_aload_n K dX1_slips_0 rfl ?_
  refine jr_iload_n K dX1_slips_1 rfl ?_
  refine jr_bud (fun mc2 ms2 hmc2 hms2 => ?_)
  refine jrx_callr ⟨hmc2, hms2⟩ (jrunx_V (As := [.int p1]) (st := []) (ci := 1) K (metX1_bookAt K.hG mc2 ms2 this p1 Ex _) mtX1_bookAt mvX1_bookAt q1242 rfl rfl rfl (Nat.le_of_ble_eq_true rfl) (by decide) ⟨hmc2, hms2⟩ dX1_slips_2) (fun x q => hEx.1 _ _ _ _ x q (fun _ h => nomatch h)) (fun v2 => ?_)
  refine jr_astore_n K (L' := [some (.ref this), some (.int p1), some (.int p2), some (.ref v2), none, none]) dX1_slips_5 (by decide) rfl rfl ?_
  refine jr_iload_n K dX1_slips_6 rfl ?_
  refine jr_bud (fun mc7 ms7 hmc7 hms7 => ?_)
  refine jrx_callv ⟨hmc7, hms7⟩ (jrunx_S (As := [.int p2]) (st := []) K (metX1_isSlip K.hG mc7 ms7 p2 Ex _) mtX1_isSlip q1327 q1326 rfl rfl (Nat.le_of_ble_eq_true rfl) (by decide) ⟨hmc7, hms7⟩ dX1_slips_7) (fun x q => hEx.1 _ _ _ _ x q (fun _ h => nomatch h)) ?_
  refine jr_aload_n K dX1_slips_10 rfl ?_
  refine jr_calli0 (jrun_V (As := []) (st := []) (ci := 1) K (metX1_reads K.hG this _) mtX1_reads mvX1_reads q596 rfl rfl rfl (Nat.le_of_ble_eq_true rfl) (by decide) ⟨Nat.zero_le _, Nat.zero_le _⟩ dX1_slips_11) (fun v11 => ?_)
  refine jr_if_ge K (tgt := 22) dX1_slips_14 (by decide) ?_ ?_
  · refine jr_iload_n K dX1_slips_22 rfl ?_
    refine jr_bipush K dX1_slips_23 (v := (nI 6)) (by decide) ?_
    refine jr_icmp_ne K (tgt := 35) dX1_slips_25 (by decide) ?_ ?_
    · refine jr_iconst K dX1_slips_35 (v := (nI 0)) (by decide) ?_
      refine jr_istore K (L' := [some (.ref this), some (.int p1), some (.int p2), some (.ref v2), some (.int (nI 0)), none]) dX1_slips_36 (by decide) rfl rfl ?_
      refine jr_iconst K dX1_slips_38 (v := (nI 0)) (by decide) ?_
      refine jr_istore K (L' := [some (.ref this), some (.int p1), some (.int p2), some (.ref v2), some (.int (nI 0)), some (.int (nI 0))]) dX1_slips_39 (by decide) rfl rfl ?_
      refine jr_ex (fun n41 => ?_)
      refine jr_weak (wX1_slips_41 K bc bs this p1 p2 Qj mc2 ms2 v2 mc7 ms7 hret n41 (nI 0) (nI 0)) ⟨rfl, rfl, rfl, rfl, rfl, rfl, trivial⟩
    · refine jr_aload_n K dX1_slips_28 rfl ?_
      refine jr_getA K gf_X1_52 dX1_slips_29 (fun v29 => ?_)
      refine jr_iload_n K dX1_slips_32 rfl ?_
      refine jr_iald K dX1_slips_33 (fun v33 => ?_)
      exact hret _ _ _ _ _ dX1_slips_34
  · refine jr_aload_n K dX1_slips_17 rfl ?_
    refine jr_getI K gf_X1_253 dX1_slips_18 (fun v18 => ?_)
    exact hret _ _ _ _ _ dX1_slips_21
theorem metX1_slips (hG : jG l D S0 A0) (bc : Nat) (bs : Nat) (this : Nat) (p1 : Int32) (p2 : Int32) (Ex : Nat → Nat → JP) (Qj : Int32 → JP) : vx_Met l yX1_slips (ws_ yX1_slips cX1_slips 6 (some .int)) (jrm 101 bc bs) (va_Pc [.ref this, .int p1, .int p2] (jB D S0 (JX1_slips bc bs this p1 p2 Ex Qj))) (va_Qi Qj (fun σ t => jRep D S0.heap.size σ t.heap) (jA S0)) (jXC D S0 Ex) bc bs (jA S0) :=
  jx_start hG (by decide) (by decide) (Nat.le_of_ble_eq_true rfl) rfl fun p e s m below meth c K hr hEx => wX1_slips K bc bs this p1 p2 Ex Qj hEx (fun _ _ _ _ _ d => jr_xret jx_mq (jr_iret K hr rfl d))
theorem wX0_slips (K : JK p l R s m args meth c D S0 A0 5 cX0_slips "MoveNotesLaw" 102) (htb : c.exceptionTable.toList = tableOf [(0, 10, 13, 25)]) (bc : Nat) (bs : Nat) (p0 : Nat) (p1 : Int32) (p2 : Int32) (p3 : Nat) (Qj : Int32 → JP) (hret : jRetI p l e R s m args below meth c Q D S0 5 cX0_slips Qj) : JR p l e R s m args below meth c Q D S0 5 bc bs (JX0_slips bc bs p0 p1 p2 p3 Qj) 0 [some (.ref p0), some (.int p1), some (.int p2), some (.ref p3), none] [] := by
  unfold JX0_slips
  refine jr_aload_n K dX0_slips_0 rfl ?_
  refine jr_iconst K dX0_slips_1 (v := (nI 0)) (by decide) ?_
  refine jr_aload_n K dX0_slips_2 rfl ?_
  refine jr_iload_n K dX0_slips_3 rfl ?_
  refine jr_iload_n K dX0_slips_4 rfl ?_
  refine jr_bud (fun mc5 ms5 hmc5 hms5 => ?_)
  refine jrx_calli ⟨hmc5, hms5⟩ (jrunx_V (As := [.int p1, .int p2]) (st := [.int (nI 0), .ref p3]) (ci := 1) K (metX1_slips K.hG mc5 ms5 p0 p1 p2 _ _) mtX1_slips mvX1_slips q1387 rfl rfl rfl (Nat.le_of_ble_eq_true rfl) (by decide) ⟨hmc5, hms5⟩ dX0_slips_5) (fun xx5 xq5 => ?_) (fun v5 => ?_)
  · refine jt_if (fun hx0 => ?_) (fun hx0 => ?_)
    · subst hx0
      refine jt_catch0 K htb rfl (by decide) (by decide) q1155 q1199 ?_
      refine jr_astore K (L' := [some (.ref p0), some (.int p1), some (.int p2), some (.ref p3), some (.ref xq5)]) dX0_slips_13 (by decide) rfl rfl ?_
      refine jr_iconst K dX0_slips_15 (v := (nI 1)) (by decide) ?_
      exact hret _ _ _ _ _ dX0_slips_16
    exact JT.bot
  refine jr_i2l K dX0_slips_8 ?_
  refine jr_last K dX0_slips_9 ?_
  refine jr_goto K (tgt := 17) dX0_slips_10 (by decide) ?_
  refine jr_iconst K dX0_slips_17 (v := (nI 0)) (by decide) ?_
  exact hret _ _ _ _ _ dX0_slips_18
theorem metX0_slips (hG : jG l D S0 A0) (bc : Nat) (bs : Nat) (p0 : Nat) (p1 : Int32) (p2 : Int32) (p3 : Nat) (Qj : Int32 → JP) : Met l yX0_slips (wsW_ yX0_slips cX0_slips 5 (some .int) [(0, 10, 13, 25)]) (jrm 102 bc bs) (va_Pc [.ref p0, .int p1, .int p2, .ref p3] (jB D S0 (JX0_slips bc bs p0 p1 p2 p3 Qj))) (va_Qi Qj (fun σ t => jRep D S0.heap.size σ t.heap) (jA S0)) bc bs (jA S0) :=
  jr_startW hG (by decide) (Nat.le_of_ble_eq_true rfl) rfl fun p e s m below meth c K hr hn htb => wX0_slips K htb bc bs p0 p1 p2 p3 Qj (fun _ _ _ _ _ d => jr_iret K hr rfl d)
theorem wX1_breaks (K : JK p l R s m args meth c D S0 A0 4 cX1_breaks "MoveNotes" 100) (bc : Nat) (bs : Nat) (this : Nat) (p1 : Int32) (Ex : Nat → Nat → JP) (Qj : Int32 → JP) (hEx : jThr p l e R s m args below meth c Q D S0 4 cX1_breaks "MoveNotes" [] Ex) (hret : jRetI p l e R s m args below meth c Q D S0 4 cX1_breaks Qj) : JR p l e R s m args below meth c Q D S0 4 bc bs (JX1_breaks bc bs this p1 Ex Qj) 0 [some (.ref this), some (.int p1), none, none] [] := by
  unfold JX1_breaks
  refine jr_aload_n K dX1_breaks_0 rfl ?_
  refine jr_iload_n K dX1_breaks_1 rfl ?_
  refine jr_bud (fun mc2 ms2 hmc2 hms2 => ?_)
  refine jrx_callr ⟨hmc2, hms2⟩ (jrunx_V (As := [.int p1]) (st := []) (ci := 1) K (metX1_bookAt K.hG mc2 ms2 this p1 Ex _) mtX1_bookAt mvX1_bookAt q1242 rfl rfl rfl (Nat.le_of_ble_eq_true rfl) (by decide) ⟨hmc2, hms2⟩ dX1_breaks_2) (fun x q => hEx.1 _ _ _ _ x q (fun _ h => nomatch h)) (fun v2 => ?_)
  refine jr_astore_n K (L' := [some (.ref this), some (.int p1), some (.ref v2), none]) dX1_breaks_5 (by decide) rfl rfl ?_
  refine jr_aload_n K dX1_breaks_6 rfl ?_
  refine jr_getA K gf_X1_35 dX1_breaks_7 (fun v7 => ?_)
  refine jr_iload_n K dX1_breaks_10 rfl ?_
  refine jr_calli0 (jrun_V (As := [.int p1]) (st := []) (ci := 10) K (metX10_lets K.hG v7 p1 _) mtX10_lets mvX10_lets q1398 rfl rfl rfl (Nat.le_of_ble_eq_true rfl) (by decide) ⟨Nat.zero_le _, Nat.zero_le _⟩ dX1_breaks_11) (fun v11 => ?_)
  refine jr_istore_n K (L' := [some (.ref this), some (.int p1), some (.ref v2), some (.int v11)]) dX1_breaks_14 (by decide) rfl rfl ?_
  refine jr_iload_n K dX1_breaks_15 rfl ?_
  refine jr_aload_n K dX1_breaks_16 rfl ?_
  refine jr_getI K gf_X1_107 dX1_breaks_17 (fun v17 => ?_)
  refine jr_icmp_ne K (tgt := 28) dX1_breaks_20 (by decide) ?_ ?_
  · refine jr_iload_n K dX1_breaks_28 rfl ?_
    exact hret _ _ _ _ _ dX1_breaks_29
  · refine jr_bipush K dX1_breaks_23 (v := (-3)) (by decide) ?_
    refine jr_goto K (tgt := 29) dX1_breaks_25 (by decide) ?_
    exact hret _ _ _ _ _ dX1_breaks_29
theorem metX1_breaks (hG : jG l D S0 A0) (bc : Nat) (bs : Nat) (this : Nat) (p1 : Int32) (Ex : Nat → Nat → JP) (Qj : Int32 → JP) : vx_Met l yX1_breaks (ws_ yX1_breaks cX1_breaks 4 (some .int)) (jrm 100 bc bs) (va_Pc [.ref this, .int p1] (jB D S0 (JX1_breaks bc bs this p1 Ex Qj))) (va_Qi Qj (fun σ t => jRep D S0.heap.size σ t.heap) (jA S0)) (jXC D S0 Ex) bc bs (jA S0) :=
  jx_start hG (by decide) (by decide) (Nat.le_of_ble_eq_true rfl) rfl fun p e s m below meth c K hr hEx => wX1_breaks K bc bs this p1 Ex Qj hEx (fun _ _ _ _ _ d => jr_xret jx_mq (jr_iret K hr rfl d))
theorem wX0_breaks (K : JK p l R s m args meth c D S0 A0 4 cX0_breaks "MoveNotesLaw" 101) (htb : c.exceptionTable.toList = tableOf [(0, 9, 12, 25)]) (bc : Nat) (bs : Nat) (p0 : Nat) (p1 : Int32) (p2 : Nat) (Qj : Int32 → JP) (hret : jRetI p l e R s m args below meth c Q D S0 4 cX0_breaks Qj) : JR p l e R s m args below meth c Q D S0 4 bc bs (JX0_breaks bc bs p0 p1 p2 Qj) 0 [some (.ref p0), some (.int p1), some (.ref p2), none] [] := by
  unfold JX0_breaks
  refine jr_aload_n K dX0_breaks_0 rfl ?_
  refine jr_iconst K dX0_breaks_1 (v := (nI 0)) (by decide) ?_
  refine jr_aload_n K dX0_breaks_2 rfl ?_
  refine jr_iload_n K dX0_breaks_3 rfl ?_
  refine jr_bud (fun mc4 ms4 hmc4 hms4 => ?_)
  refine jrx_calli ⟨hmc4, hms4⟩ (jrunx_V (As := [.int p1]) (st := [.int (nI 0), .ref p2]) (ci := 1) K (metX1_breaks K.hG mc4 ms4 p0 p1 _ _) mtX1_breaks mvX1_breaks q1394 rfl rfl rfl (Nat.le_of_ble_eq_true rfl) (by decide) ⟨hmc4, hms4⟩ dX0_breaks_4) (fun xx4 xq4 => ?_) (fun v4 => ?_)
  · refine jt_if (fun hx0 => ?_) (fun hx0 => ?_)
    · subst hx0
      refine jt_catch0 K htb rfl (by decide) (by decide) q1155 q1199 ?_
      refine jr_astore_n K (L' := [some (.ref p0), some (.int p1), some (.ref p2), some (.ref xq4)]) dX0_breaks_12 (by decide) rfl rfl ?_
      refine jr_iconst K dX0_breaks_13 (v := (nI 1)) (by decide) ?_
      exact hret _ _ _ _ _ dX0_breaks_14
    exact JT.bot
  refine jr_i2l K dX0_breaks_7 ?_
  refine jr_last K dX0_breaks_8 ?_
  refine jr_goto K (tgt := 15) dX0_breaks_9 (by decide) ?_
  refine jr_iconst K dX0_breaks_15 (v := (nI 0)) (by decide) ?_
  exact hret _ _ _ _ _ dX0_breaks_16
theorem metX0_breaks (hG : jG l D S0 A0) (bc : Nat) (bs : Nat) (p0 : Nat) (p1 : Int32) (p2 : Nat) (Qj : Int32 → JP) : Met l yX0_breaks (wsW_ yX0_breaks cX0_breaks 4 (some .int) [(0, 9, 12, 25)]) (jrm 101 bc bs) (va_Pc [.ref p0, .int p1, .ref p2] (jB D S0 (JX0_breaks bc bs p0 p1 p2 Qj))) (va_Qi Qj (fun σ t => jRep D S0.heap.size σ t.heap) (jA S0)) bc bs (jA S0) :=
  jr_startW hG (by decide) (Nat.le_of_ble_eq_true rfl) rfl fun p e s m below meth c K hr hn htb => wX0_breaks K htb bc bs p0 p1 p2 Qj (fun _ _ _ _ _ d => jr_iret K hr rfl d)
theorem wX1_brief_117 (K : JK p l R s m args meth c D S0 A0 6 cX1_brief "MoveNotes" 101) (bc : Nat) (bs : Nat) (this : Nat) (Qj : Int32 → JP) (mc9 : Nat) (ms9 : Nat) (v97 : Int32) (v109 : Int32) (hret : jRetI p l e R s m args below meth c Q D S0 6 cX1_brief Qj) : ∀ (n : Nat) (x4_117 : Int32) (x5_117 : Int32), JR p l e R s m args below meth c Q D S0 6 (bc - mc9) (bs - ms9) (jit (FX1_brief_117 this Qj v97 v109) (fun _ _ => jbot) n x4_117 x5_117) 117 [some (.ref this), none, some (.int v97), some (.int v109), some (.int x4_117), some (.int x5_117)] [] := by
  intro n
  induction n with
  | zero =>
    intro x4_117 x5_117
    exact JR.bot
  | succ n ih117 =>
    intro x4_117 x5_117
    show JR p l e R s m args below meth c Q D S0 6 (bc - mc9) (bs - ms9) (FX1_brief_117 this Qj v97 v109 (jit (FX1_brief_117 this Qj v97 v109) (fun _ _ => jbot) n) x4_117 x5_117) 117 [some (.ref this), none, some (.int v97), some (.int v109), some (.int x4_117), some (.int x5_117)] []
    generalize jit (FX1_brief_117 this Qj v97 v109) (fun _ _ => jbot) n = rec117 at ih117 ⊢
    unfold FX1_brief_117
    refine jr_iload K dX1_brief_117 rfl ?_
    refine jr_iload_n K dX1_brief_119 rfl ?_
    refine jr_icmp_ge K (tgt := 189) dX1_brief_120 (by decide) ?_ ?_
    · refine jr_iload K dX1_brief_189 rfl ?_
      exact hret _ _ _ _ _ dX1_brief_191
    · refine jr_iload K dX1_brief_123 rfl ?_
      refine jr_aload_n K dX1_brief_125 rfl ?_
      refine jr_getA K gf_X1_59 dX1_brief_126 (fun v126 => ?_)
      refine jr_iload K dX1_brief_129 rfl ?_
      refine jr_iald K dX1_brief_131 (fun v131 => ?_)
      refine jr_bipush K dX1_brief_132 (v := (nI 36)) (by decide) ?_
      refine jr_irem K dX1_brief_134 (by decide) ?_
      refine jr_iload_n K dX1_brief_135 rfl ?_
      refine jr_bipush K dX1_brief_136 (v := (nI 36)) (by decide) ?_
      refine jr_irem K dX1_brief_138 (by decide) ?_
      refine jr_join (fun (k180 : Int32 → JP) => ∀ (s1_180 : Int32), JR p l e R s m args below meth c Q D S0 6 (bc - mc9) (bs - ms9) (k180 s1_180) 180 [some (.ref this), none, some (.int v97), some (.int v109), none, some (.int x5_117)] [.int s1_180, .int x4_117]) ?_ (fun k180 hk180 => ?_)
      · intro s1_180
        refine jr_iadd K dX1_brief_180 ?_
        refine jr_istore K (L' := [some (.ref this), none, some (.int v97), some (.int v109), some (.int (x4_117 + s1_180)), some (.int x5_117)]) dX1_brief_181 (by decide) rfl rfl ?_
        refine jr_iinc K (v := (x5_117 + (nI 1))) (L' := [some (.ref this), none, some (.int v97), some (.int v109), some (.int (x4_117 + s1_180)), some (.int (x5_117 + (nI 1)))]) dX1_brief_183 rfl rfl (by decide) rfl rfl ?_
        refine jr_goto K (tgt := 117) dX1_brief_186 (by decide) ?_
        exact jr_weak (ih117 (x4_117 + s1_180) (x5_117 + (nI 1))) ⟨rfl, rfl, rfl, rfl, rfl, trivial⟩
      refine jr_join (fun (k179 : JP) => JR p l e R s m args below meth c Q D S0 6 (bc - mc9) (bs - ms9) k179 179 [some (.ref this), none, some (.int v97), some (.int v109), none, some (.int x5_117)] [.int x4_117]) ?_ (fun k179 hk179 => ?_)
      · refine jr_iconst K dX1_brief_179 (v := (nI 0)) (by decide) ?_
        exact jr_weak (hk180 (nI 0)) ⟨rfl, rfl, rfl, rfl, trivial⟩
      refine jr_icmp_ne K (tgt := 179) dX1_brief_139 (by decide) ?_ ?_
      · exact jr_weak (hk179) ⟨rfl, rfl, rfl, rfl, trivial⟩
      · refine jr_aload_n K dX1_brief_142 rfl ?_
        refine jr_getA K gf_X1_65 dX1_brief_143 (fun v143 => ?_)
        refine jr_getA K gf_X1_169 dX1_brief_146 (fun v146 => ?_)
        refine jr_aload_n K dX1_brief_149 rfl ?_
        refine jr_getA K gf_X1_59 dX1_brief_150 (fun v150 => ?_)
        refine jr_iload K dX1_brief_153 rfl ?_
        refine jr_iald K dX1_brief_155 (fun v155 => ?_)
        refine jr_bipush K dX1_brief_156 (v := (nI 36)) (by decide) ?_
        refine jr_idiv K dX1_brief_158 (by decide) ?_
        refine jr_iald K dX1_brief_159 (fun v159 => ?_)
        refine jr_aload_n K dX1_brief_160 rfl ?_
        refine jr_getA K gf_X1_65 dX1_brief_161 (fun v161 => ?_)
        refine jr_getA K gf_X1_169 dX1_brief_164 (fun v164 => ?_)
        refine jr_iload_n K dX1_brief_167 rfl ?_
        refine jr_bipush K dX1_brief_168 (v := (nI 36)) (by decide) ?_
        refine jr_idiv K dX1_brief_170 (by decide) ?_
        refine jr_iald K dX1_brief_171 (fun v171 => ?_)
        refine jr_icmp_ne K (tgt := 179) dX1_brief_172 (by decide) ?_ ?_
        · exact jr_weak (hk179) ⟨rfl, rfl, rfl, rfl, trivial⟩
        · refine jr_iconst K dX1_brief_175 (v := (nI 1)) (by decide) ?_
          refine jr_goto K (tgt := 180) dX1_brief_176 (by decide) ?_
          exact jr_weak (hk180 (nI 1)) ⟨rfl, rfl, rfl, rfl, trivial⟩
theorem wX1_brief_54 (K : JK p l R s m args meth c D S0 A0 6 cX1_brief "MoveNotes" 101) (bc : Nat) (bs : Nat) (this : Nat) (p1 : Int32) (mc9 : Nat) (ms9 : Nat) (k82 : JP) (hk82 : JR p l e R s m args below meth c Q D S0 6 (bc - mc9) (bs - ms9) k82 82 [some (.ref this), some (.int p1), none, none, none, none] []) : ∀ (n : Nat) (x2_54 : Int32), JR p l e R s m args below meth c Q D S0 6 (bc - mc9) (bs - ms9) (jit (FX1_brief_54 this p1 k82) (fun _ => jbot) n x2_54) 54 [some (.ref this), some (.int p1), some (.int x2_54), none, none, none] [] := by
  intro n
  induction n with
  | zero =>
    intro x2_54
    exact JR.bot
  | succ n ih54 =>
    intro x2_54
    show JR p l e R s m args below meth c Q D S0 6 (bc - mc9) (bs - ms9) (FX1_brief_54 this p1 k82 (jit (FX1_brief_54 this p1 k82) (fun _ => jbot) n) x2_54) 54 [some (.ref this), some (.int p1), some (.int x2_54), none, none, none] []
    generalize jit (FX1_brief_54 this p1 k82) (fun _ => jbot) n = rec54 at ih54 ⊢
    unfold FX1_brief_54
    refine jr_iload_n K dX1_brief_54 rfl ?_
    refine jr_iload_n K dX1_brief_55 rfl ?_
    refine jr_icmp_ge K (tgt := 82) dX1_brief_56 (by decide) ?_ ?_
    · exact jr_weak (hk82) ⟨rfl, rfl, trivial⟩
    · refine jr_aload_n K dX1_brief_59 rfl ?_
      refine jr_getA K gf_X1_65 dX1_brief_60 (fun v60 => ?_)
      refine jr_aload_n K dX1_brief_63 rfl ?_
      refine jr_getA K gf_X1_31 dX1_brief_64 (fun v64 => ?_)
      refine jr_getA K gf_X1_272 dX1_brief_67 (fun v67 => ?_)
      refine jr_iload_n K dX1_brief_70 rfl ?_
      refine jr_iald K dX1_brief_71 (fun v71 => ?_)
      refine jr_calli0 (jrun_V (As := [.int v71]) (st := []) (ci := 8) K (metX8_goes K.hG v60 v71 _) mtX8_goes mvX8_goes q794 rfl rfl rfl (Nat.le_of_ble_eq_true rfl) (by decide) ⟨Nat.zero_le _, Nat.zero_le _⟩ dX1_brief_72) (fun v72 => ?_)
      refine jr_pop K dX1_brief_75 rfl ?_
      refine jr_iinc K (v := (x2_54 + (nI 1))) (L' := [some (.ref this), some (.int p1), some (.int (x2_54 + (nI 1))), none, none, none]) dX1_brief_76 rfl rfl (by decide) rfl rfl ?_
      refine jr_goto K (tgt := 54) dX1_brief_79 (by decide) ?_
      exact jr_weak (ih54 (x2_54 + (nI 1))) ⟨rfl, rfl, rfl, trivial⟩
theorem wX1_brief (K : JK p l R s m args meth c D S0 A0 6 cX1_brief "MoveNotes" 101) (bc : Nat) (bs : Nat) (this : Nat) (p1 : Int32) (Ex : Nat → Nat → JP) (Qj : Int32 → JP) (hEx : jThr p l e R s m args below meth c Q D S0 6 cX1_brief "MoveNotes" [] Ex) (hret : jRetI p l e R s m args below meth c Q D S0 6 cX1_brief Qj) : JR p l e R s m args below meth c Q D S0 6 bc bs (JX1_brief bc bs this p1 Ex Qj) 0 [some (.ref this), some (.int p1), none, none, none, none] [] := by
  unfold JX1_brief
  refine jr_iload_n K dX1_brief_0 rfl ?_
  refine jr_join (fun (k9 : Int32 → JP) => ∀ (s0_9 : Int32), JR p l e R s m args below meth c Q D S0 6 bc bs (k9 s0_9) 9 [some (.ref this), some (.int p1), none, none, none, none] [.int s0_9]) ?_ (fun k9 hk9 => ?_)
  · intro s0_9
    refine jr_bud (fun mc9 ms9 hmc9 hms9 => ?_)
    refine jrx_callv ⟨hmc9, hms9⟩ (jrunx_S (As := [.int s0_9]) (st := []) K (metX1_must K.hG mc9 ms9 s0_9 Ex _) mtX1_must q1108 q1107 rfl rfl (Nat.le_of_ble_eq_true rfl) (by decide) ⟨hmc9, hms9⟩ dX1_brief_9) (fun x q => hEx.1 _ _ _ _ x q (fun _ h => nomatch h)) ?_
    refine jr_aload_n K dX1_brief_12 rfl ?_
    refine jr_calli0 (jrun_V (As := []) (st := []) (ci := 1) K (metX1_reads K.hG this _) mtX1_reads mvX1_reads q596 rfl rfl rfl (Nat.le_of_ble_eq_true rfl) (by decide) ⟨Nat.zero_le _, Nat.zero_le _⟩ dX1_brief_13) (fun v13 => ?_)
    refine jr_if_ge K (tgt := 24) dX1_brief_16 (by decide) ?_ ?_
    · refine jr_iload_n K dX1_brief_24 rfl ?_
      refine jr_aload_n K dX1_brief_25 rfl ?_
      refine jr_getA K gf_X1_31 dX1_brief_26 (fun v26 => ?_)
      refine jr_getI K gf_X1_269 dX1_brief_29 (fun v29 => ?_)
      refine jr_icmp_lt K (tgt := 38) dX1_brief_32 (by decide) ?_ ?_
      · refine jr_aload_n K dX1_brief_38 rfl ?_
        refine jr_getA K gf_X1_65 dX1_brief_39 (fun v39 => ?_)
        refine jr_aload_n K dX1_brief_42 rfl ?_
        refine jr_getA K gf_X1_19 dX1_brief_43 (fun v43 => ?_)
        refine jr_getA K gf_X1_166 dX1_brief_46 (fun v46 => ?_)
        refine jr_callv0 (jrun_V (As := [.ref v46]) (st := []) (ci := 8) K (metX8_be K.hG v39 v46 _) mtX8_be mvX8_be q791 rfl rfl rfl (Nat.le_of_ble_eq_true rfl) (by decide) ⟨Nat.zero_le _, Nat.zero_le _⟩ dX1_brief_49) ?_
        refine jr_iconst K dX1_brief_52 (v := (nI 0)) (by decide) ?_
        refine jr_istore_n K (L' := [some (.ref this), some (.int p1), some (.int (nI 0)), none, none, none]) dX1_brief_53 (by decide) rfl rfl ?_
        refine jr_ex (fun n54 => ?_)
        refine jr_weak (wX1_brief_54 K bc bs this p1 mc9 ms9 _ ?_ n54 (nI 0)) ⟨rfl, rfl, rfl, trivial⟩
        · refine jr_aload_n K dX1_brief_82 rfl ?_
          refine jr_getA K gf_X1_35 dX1_brief_83 (fun v83 => ?_)
          refine jr_aload_n K dX1_brief_86 rfl ?_
          refine jr_getA K gf_X1_65 dX1_brief_87 (fun v87 => ?_)
          refine jr_iload_n K dX1_brief_90 rfl ?_
          refine jr_iconst K dX1_brief_91 (v := (nI 2)) (by decide) ?_
          refine jr_irem K dX1_brief_92 (by decide) ?_
          refine jr_aload_n K dX1_brief_93 rfl ?_
          refine jr_getA K gf_X1_59 dX1_brief_94 (fun v94 => ?_)
          refine jr_calli0 (jrun_V (As := [.ref v87, .int (jrem p1 (nI 2)), .ref v94]) (st := []) (ci := 10) K (metX10_gathers K.hG v83 v87 (jrem p1 (nI 2)) v94 _) mtX10_gathers mvX10_gathers q1223 rfl rfl rfl (Nat.le_of_ble_eq_true rfl) (by decide) ⟨Nat.zero_le _, Nat.zero_le _⟩ dX1_brief_97) (fun v97 => ?_)
          refine jr_istore_n K (L' := [some (.ref this), some (.int p1), some (.int v97), none, none, none]) dX1_brief_100 (by decide) rfl rfl ?_
          refine jr_aload_n K dX1_brief_101 rfl ?_
          refine jr_getA K gf_X1_31 dX1_brief_102 (fun v102 => ?_)
          refine jr_getA K gf_X1_272 dX1_brief_105 (fun v105 => ?_)
          refine jr_iload_n K dX1_brief_108 rfl ?_
          refine jr_iald K dX1_brief_109 (fun v109 => ?_)
          refine jr_istore_n K (L' := [some (.ref this), some (.int p1), some (.int v97), some (.int v109), none, none]) dX1_brief_110 (by decide) rfl rfl ?_
          refine jr_iconst K dX1_brief_111 (v := (nI 0)) (by decide) ?_
          refine jr_istore K (L' := [some (.ref this), some (.int p1), some (.int v97), some (.int v109), some (.int (nI 0)), none]) dX1_brief_112 (by decide) rfl rfl ?_
          refine jr_iconst K dX1_brief_114 (v := (nI 0)) (by decide) ?_
          refine jr_istore K (L' := [some (.ref this), some (.int p1), some (.int v97), some (.int v109), some (.int (nI 0)), some (.int (nI 0))]) dX1_brief_115 (by decide) rfl rfl ?_
          refine jr_ex (fun n117 => ?_)
          refine jr_weak (wX1_brief_117 K bc bs this Qj mc9 ms9 v97 v109 hret n117 (nI 0) (nI 0)) ⟨rfl, rfl, rfl, rfl, rfl, trivial⟩
      · refine jr_bipush K dX1_brief_35 (v := (-3)) (by decide) ?_
        exact hret _ _ _ _ _ dX1_brief_37
    · refine jr_aload_n K dX1_brief_19 rfl ?_
      refine jr_getI K gf_X1_253 dX1_brief_20 (fun v20 => ?_)
      exact hret _ _ _ _ _ dX1_brief_23
  refine jr_if_lt K (tgt := 8) dX1_brief_1 (by decide) ?_ ?_
  · refine jr_iconst K dX1_brief_8 (v := (nI 0)) (by decide) ?_
    exact jr_weak (hk9 (nI 0)) ⟨rfl, rfl, trivial⟩
  · refine jr_iconst K dX1_brief_4 (v := (nI 1)) (by decide) ?_
    refine jr_goto K (tgt := 9) dX1_brief_5 (by decide) ?_
    exact jr_weak (hk9 (nI 1)) ⟨rfl, rfl, trivial⟩
theorem metX1_brief (hG : jG l D S0 A0) (bc : Nat) (bs : Nat) (this : Nat) (p1 : Int32) (Ex : Nat → Nat → JP) (Qj : Int32 → JP) : vx_Met l yX1_brief (ws_ yX1_brief cX1_brief 6 (some .int)) (jrm 101 bc bs) (va_Pc [.ref this, .int p1] (jB D S0 (JX1_brief bc bs this p1 Ex Qj))) (va_Qi Qj (fun σ t => jRep D S0.heap.size σ t.heap) (jA S0)) (jXC D S0 Ex) bc bs (jA S0) :=
  jx_start hG (by decide) (by decide) (Nat.le_of_ble_eq_true rfl) rfl fun p e s m below meth c K hr hEx => wX1_brief K bc bs this p1 Ex Qj hEx (fun _ _ _ _ _ d => jr_xret jx_mq (jr_iret K hr rfl d))
theorem wX0_brief (K : JK p l R s m args meth c D S0 A0 4 cX0_brief "MoveNotesLaw" 102) (htb : c.exceptionTable.toList = tableOf [(0, 9, 12, 13)]) (bc : Nat) (bs : Nat) (p0 : Nat) (p1 : Int32) (p2 : Nat) (Qj : Int32 → JP) (hret : jRetI p l e R s m args below meth c Q D S0 4 cX0_brief Qj) : JR p l e R s m args below meth c Q D S0 4 bc bs (JX0_brief bc bs p0 p1 p2 Qj) 0 [some (.ref p0), some (.int p1), some (.ref p2), none] [] := by
  unfold JX0_brief
  refine jr_aload_n K dX0_brief_0 rfl ?_
  refine jr_iconst K dX0_brief_1 (v := (nI 0)) (by decide) ?_
  refine jr_aload_n K dX0_brief_2 rfl ?_
  refine jr_iload_n K dX0_brief_3 rfl ?_
  refine jr_bud (fun mc4 ms4 hmc4 hms4 => ?_)
  refine jrx_calli ⟨hmc4, hms4⟩ (jrunx_V (As := [.int p1]) (st := [.int (nI 0), .ref p2]) (ci := 1) K (metX1_brief K.hG mc4 ms4 p0 p1 _ _) mtX1_brief mvX1_brief q1405 rfl rfl rfl (Nat.le_of_ble_eq_true rfl) (by decide) ⟨hmc4, hms4⟩ dX0_brief_4) (fun xx4 xq4 => ?_) (fun v4 => ?_)
  · refine jt_if (fun hx0 => ?_) (fun hx0 => ?_)
    · subst hx0
      refine jt_catch0 K htb rfl (by decide) (by decide) q831 q1088 ?_
      refine jr_astore_n K (L' := [some (.ref p0), some (.int p1), some (.ref p2), some (.ref xq4)]) dX0_brief_12 (by decide) rfl rfl ?_
      refine jr_iconst K dX0_brief_13 (v := (nI 1)) (by decide) ?_
      exact hret _ _ _ _ _ dX0_brief_14
    exact JT.bot
  refine jr_i2l K dX0_brief_7 ?_
  refine jr_last K dX0_brief_8 ?_
  refine jr_goto K (tgt := 15) dX0_brief_9 (by decide) ?_
  refine jr_iconst K dX0_brief_15 (v := (nI 0)) (by decide) ?_
  exact hret _ _ _ _ _ dX0_brief_16
theorem metX0_brief (hG : jG l D S0 A0) (bc : Nat) (bs : Nat) (p0 : Nat) (p1 : Int32) (p2 : Nat) (Qj : Int32 → JP) : Met l yX0_brief (wsW_ yX0_brief cX0_brief 4 (some .int) [(0, 9, 12, 13)]) (jrm 102 bc bs) (va_Pc [.ref p0, .int p1, .ref p2] (jB D S0 (JX0_brief bc bs p0 p1 p2 Qj))) (va_Qi Qj (fun σ t => jRep D S0.heap.size σ t.heap) (jA S0)) bc bs (jA S0) :=
  jr_startW hG (by decide) (Nat.le_of_ble_eq_true rfl) rfl fun p e s m below meth c K hr hn htb => wX0_brief K htb bc bs p0 p1 p2 Qj (fun _ _ _ _ _ d => jr_iret K hr rfl d)
theorem wX1_part_28 (K : JK p l R s m args meth c D S0 A0 2 cX1_part "MoveNotes" 101) (bc bs : Nat) (this : Nat) (Qj : Int32 → JP) (hret : jRetI p l e R s m args below meth c Q D S0 2 cX1_part Qj) : ∀ (n : Nat) (x1_28 : Int32), JR p l e R s m args below meth c Q D S0 2 bc bs (jit (FX1_part_28 this Qj) (fun _ => jbot) n x1_28) 28 [some (.ref this), some (.int x1_28)] [] := by
  intro n
  induction n with
  | zero =>
    intro x1_28
    exact JR.bot
  | succ n ih28 =>
    intro x1_28
    show JR p l e R s m args below meth c Q D S0 2 bc bs (FX1_part_28 this Qj (jit (FX1_part_28 this Qj) (fun _ => jbot) n) x1_28) 28 [some (.ref this), some (.int x1_28)] []
    generalize jit (FX1_part_28 this Qj) (fun _ => jbot) n = rec28 at ih28 ⊢
    unfold FX1_part_28
    refine jr_iload_n K dX1_part_28 rfl ?_
    refine jr_aload_n K dX1_part_29 rfl ?_
    refine jr_getA K gf_X1_31 dX1_part_30 (fun v30 => ?_)
    refine jr_getI K gf_X1_269 dX1_part_33 (fun v33 => ?_)
    refine jr_icmp_ge K (tgt := 77) dX1_part_36 (by decide) ?_ ?_
    · refine jr_iload_n K dX1_part_77 rfl ?_
      exact hret _ _ _ _ _ dX1_part_78
    · refine jr_iload_n K dX1_part_39 rfl ?_
      refine jr_aload_n K dX1_part_40 rfl ?_
      refine jr_getA K gf_X1_31 dX1_part_41 (fun v41 => ?_)
      refine jr_getI K gf_X1_287 dX1_part_44 (fun v44 => ?_)
      refine jr_icmp_ge K (tgt := 77) dX1_part_47 (by decide) ?_ ?_
      · refine jr_iload_n K dX1_part_77 rfl ?_
        exact hret _ _ _ _ _ dX1_part_78
      · refine jr_aload_n K dX1_part_50 rfl ?_
        refine jr_getA K gf_X1_31 dX1_part_51 (fun v51 => ?_)
        refine jr_getA K gf_X1_272 dX1_part_54 (fun v54 => ?_)
        refine jr_iload_n K dX1_part_57 rfl ?_
        refine jr_iald K dX1_part_58 (fun v58 => ?_)
        refine jr_aload_n K dX1_part_59 rfl ?_
        refine jr_getA K gf_X1_31 dX1_part_60 (fun v60 => ?_)
        refine jr_getA K gf_X1_290 dX1_part_63 (fun v63 => ?_)
        refine jr_iload_n K dX1_part_66 rfl ?_
        refine jr_iald K dX1_part_67 (fun v67 => ?_)
        refine jr_icmp_ne K (tgt := 77) dX1_part_68 (by decide) ?_ ?_
        · refine jr_iload_n K dX1_part_77 rfl ?_
          exact hret _ _ _ _ _ dX1_part_78
        · refine jr_iinc K (v := (x1_28 + (nI 1))) (L' := [some (.ref this), some (.int (x1_28 + (nI 1)))]) dX1_part_71 rfl rfl (by decide) rfl rfl ?_
          refine jr_goto K (tgt := 28) dX1_part_74 (by decide) ?_
          exact jr_weak (ih28 (x1_28 + (nI 1))) ⟨rfl, rfl, trivial⟩
theorem wX1_part (K : JK p l R s m args meth c D S0 A0 2 cX1_part "MoveNotes" 101) (bc bs : Nat) (this : Nat) (Qj : Int32 → JP) (hret : jRetI p l e R s m args below meth c Q D S0 2 cX1_part Qj) : JR p l e R s m args below meth c Q D S0 2 bc bs (JX1_part this Qj) 0 [some (.ref this), none] [] := by
  unfold JX1_part
  refine jr_aload_n K dX1_part_0 rfl ?_
  refine jr_calli0 (jrun_V (As := []) (st := []) (ci := 1) K (metX1_reads K.hG this _) mtX1_reads mvX1_reads q596 rfl rfl rfl (Nat.le_of_ble_eq_true rfl) (by decide) ⟨Nat.zero_le _, Nat.zero_le _⟩ dX1_part_1) (fun v1 => ?_)
  refine jr_if_ge K (tgt := 12) dX1_part_4 (by decide) ?_ ?_
  · refine jr_aload_n K dX1_part_12 rfl ?_
    refine jr_getA K gf_X1_31 dX1_part_13 (fun v13 => ?_)
    refine jr_getI K gf_X1_286 dX1_part_16 (fun v16 => ?_)
    refine jr_iconst K dX1_part_19 (v := (nI 2)) (by decide) ?_
    refine jr_icmp_ge K (tgt := 26) dX1_part_20 (by decide) ?_ ?_
    · refine jr_iconst K dX1_part_26 (v := (nI 0)) (by decide) ?_
      refine jr_istore_n K (L' := [some (.ref this), some (.int (nI 0))]) dX1_part_27 (by decide) rfl rfl ?_
      refine jr_ex (fun n28 => ?_)
      refine jr_weak (wX1_part_28 K bc bs this Qj hret n28 (nI 0)) ⟨rfl, rfl, trivial⟩
    · refine jr_bipush K dX1_part_23 (v := (-3)) (by decide) ?_
      exact hret _ _ _ _ _ dX1_part_25
  · refine jr_aload_n K dX1_part_7 rfl ?_
    refine jr_getI K gf_X1_253 dX1_part_8 (fun v8 => ?_)
    exact hret _ _ _ _ _ dX1_part_11
theorem metX1_part (hG : jG l D S0 A0) (this : Nat) (Qj : Int32 → JP) : Met l yX1_part (ws_ yX1_part cX1_part 2 (some .int)) (jrm 101 0 0) (va_Pc [.ref this] (jB D S0 (JX1_part this Qj))) (va_Qi Qj (fun σ t => jRep D S0.heap.size σ t.heap) (jA S0)) 0 0 (jA S0) :=
  jr_start hG (by decide) (Nat.le_of_ble_eq_true rfl) rfl fun p e s m below meth c K hr hn => wX1_part K _ _ this Qj (fun _ _ _ _ _ d => jr_iret K hr rfl d)
theorem wX1_best (K : JK p l R s m args meth c D S0 A0 3 cX1_best "MoveNotes" 100) (bc : Nat) (bs : Nat) (this : Nat) (p1 : Int32) (Ex : Nat → Nat → JP) (Qj : Int32 → JP) (hEx : jThr p l e R s m args below meth c Q D S0 3 cX1_best "MoveNotes" [] Ex) (hret : jRetI p l e R s m args below meth c Q D S0 3 cX1_best Qj) : JR p l e R s m args below meth c Q D S0 3 bc bs (JX1_best bc bs this p1 Ex Qj) 0 [some (.ref this), some (.int p1), none] [] := by
  unfold JX1_best
  refine jr_iload_n K dX1_best_0 rfl ?_
  refine jr_iconst K dX1_best_1 (v := (-1)) (by decide) ?_
  refine jr_join (fun (k10 : Int32 → JP) => ∀ (s0_10 : Int32), JR p l e R s m args below meth c Q D S0 3 bc bs (k10 s0_10) 10 [some (.ref this), some (.int p1), none] [.int s0_10]) ?_ (fun k10 hk10 => ?_)
  · intro s0_10
    refine jr_bud (fun mc10 ms10 hmc10 hms10 => ?_)
    refine jrx_callv ⟨hmc10, hms10⟩ (jrunx_S (As := [.int s0_10]) (st := []) K (metX1_must K.hG mc10 ms10 s0_10 Ex _) mtX1_must q1108 q1107 rfl rfl (Nat.le_of_ble_eq_true rfl) (by decide) ⟨hmc10, hms10⟩ dX1_best_10) (fun x q => hEx.1 _ _ _ _ x q (fun _ h => nomatch h)) ?_
    refine jr_aload_n K dX1_best_13 rfl ?_
    refine jr_getA K gf_X1_35 dX1_best_14 (fun v14 => ?_)
    refine jr_iconst K dX1_best_17 (v := (nI 1)) (by decide) ?_
    refine jr_putZ K pf_X1_256 dX1_best_18 ?_
    refine jr_aload_n K dX1_best_21 rfl ?_
    refine jr_getA K gf_X1_35 dX1_best_22 (fun v22 => ?_)
    refine jr_aload_n K dX1_best_25 rfl ?_
    refine jr_calli0 (jrun_V (As := []) (st := [.ref v22]) (ci := 1) K (metX1_allBooks K.hG this _) mtX1_allBooks mvX1_allBooks q600 rfl rfl rfl (Nat.le_of_ble_eq_true rfl) (by decide) ⟨Nat.zero_le _, Nat.zero_le _⟩ dX1_best_26) (fun v26 => ?_)
    refine jr_calli0 (jrun_V (As := [.int v26]) (st := []) (ci := 10) K (metX10_least K.hG v22 v26 _) mtX10_least mvX10_least q604 rfl rfl rfl (Nat.le_of_ble_eq_true rfl) (by decide) ⟨Nat.zero_le _, Nat.zero_le _⟩ dX1_best_29) (fun v29 => ?_)
    refine jr_istore_n K (L' := [some (.ref this), some (.int p1), some (.int v29)]) dX1_best_32 (by decide) rfl rfl ?_
    refine jr_aload_n K dX1_best_33 rfl ?_
    refine jr_getA K gf_X1_35 dX1_best_34 (fun v34 => ?_)
    refine jr_iconst K dX1_best_37 (v := (nI 0)) (by decide) ?_
    refine jr_putZ K pf_X1_256 dX1_best_38 ?_
    refine jr_iload_n K dX1_best_41 rfl ?_
    refine jr_if_ge K (tgt := 47) dX1_best_42 (by decide) ?_ ?_
    · refine jr_iload_n K dX1_best_47 rfl ?_
      refine jr_iconst K dX1_best_48 (v := (-1)) (by decide) ?_
      refine jr_icmp_ne K (tgt := 62) dX1_best_49 (by decide) ?_ ?_
      · refine jr_iload_n K dX1_best_62 rfl ?_
        refine jr_aload_n K dX1_best_63 rfl ?_
        refine jr_getA K gf_X1_35 dX1_best_64 (fun v64 => ?_)
        refine jr_getI K gf_X1_299 dX1_best_67 (fun v67 => ?_)
        refine jr_icmp_ge K (tgt := 85) dX1_best_70 (by decide) ?_ ?_
        · refine jr_bipush K dX1_best_85 (v := (-3)) (by decide) ?_
          exact hret _ _ _ _ _ dX1_best_87
        · refine jr_aload_n K dX1_best_73 rfl ?_
          refine jr_getA K gf_X1_35 dX1_best_74 (fun v74 => ?_)
          refine jr_getA K gf_X1_302 dX1_best_77 (fun v77 => ?_)
          refine jr_iload_n K dX1_best_80 rfl ?_
          refine jr_iald K dX1_best_81 (fun v81 => ?_)
          refine jr_goto K (tgt := 87) dX1_best_82 (by decide) ?_
          exact hret _ _ _ _ _ dX1_best_87
      · refine jr_aload_n K dX1_best_52 rfl ?_
        refine jr_getA K gf_X1_35 dX1_best_53 (fun v53 => ?_)
        refine jr_getI K gf_X1_296 dX1_best_56 (fun v56 => ?_)
        refine jr_goto K (tgt := 87) dX1_best_59 (by decide) ?_
        exact hret _ _ _ _ _ dX1_best_87
    · refine jr_iload_n K dX1_best_45 rfl ?_
      exact hret _ _ _ _ _ dX1_best_46
  refine jr_icmp_lt K (tgt := 9) dX1_best_2 (by decide) ?_ ?_
  · refine jr_iconst K dX1_best_9 (v := (nI 0)) (by decide) ?_
    exact jr_weak (hk10 (nI 0)) ⟨rfl, rfl, trivial⟩
  · refine jr_iconst K dX1_best_5 (v := (nI 1)) (by decide) ?_
    refine jr_goto K (tgt := 10) dX1_best_6 (by decide) ?_
    exact jr_weak (hk10 (nI 1)) ⟨rfl, rfl, trivial⟩
theorem metX1_best (hG : jG l D S0 A0) (bc : Nat) (bs : Nat) (this : Nat) (p1 : Int32) (Ex : Nat → Nat → JP) (Qj : Int32 → JP) : vx_Met l yX1_best (ws_ yX1_best cX1_best 3 (some .int)) (jrm 100 bc bs) (va_Pc [.ref this, .int p1] (jB D S0 (JX1_best bc bs this p1 Ex Qj))) (va_Qi Qj (fun σ t => jRep D S0.heap.size σ t.heap) (jA S0)) (jXC D S0 Ex) bc bs (jA S0) :=
  jx_start hG (by decide) (by decide) (Nat.le_of_ble_eq_true rfl) rfl fun p e s m below meth c K hr hEx => wX1_best K bc bs this p1 Ex Qj hEx (fun _ _ _ _ _ d => jr_xret jx_mq (jr_iret K hr rfl d))
theorem wX0_best (K : JK p l R s m args meth c D S0 A0 4 cX0_best "MoveNotesLaw" 101) (htb : c.exceptionTable.toList = tableOf [(0, 9, 12, 13)]) (bc : Nat) (bs : Nat) (p0 : Nat) (p1 : Int32) (p2 : Nat) (Qj : Int32 → JP) (hret : jRetI p l e R s m args below meth c Q D S0 4 cX0_best Qj) : JR p l e R s m args below meth c Q D S0 4 bc bs (JX0_best bc bs p0 p1 p2 Qj) 0 [some (.ref p0), some (.int p1), some (.ref p2), none] [] := by
  unfold JX0_best
  refine jr_aload_n K dX0_best_0 rfl ?_
  refine jr_iconst K dX0_best_1 (v := (nI 0)) (by decide) ?_
  refine jr_aload_n K dX0_best_2 rfl ?_
  refine jr_iload_n K dX0_best_3 rfl ?_
  refine jr_bud (fun mc4 ms4 hmc4 hms4 => ?_)
  refine jrx_calli ⟨hmc4, hms4⟩ (jrunx_V (As := [.int p1]) (st := [.int (nI 0), .ref p2]) (ci := 1) K (metX1_best K.hG mc4 ms4 p0 p1 _ _) mtX1_best mvX1_best q1412 rfl rfl rfl (Nat.le_of_ble_eq_true rfl) (by decide) ⟨hmc4, hms4⟩ dX0_best_4) (fun xx4 xq4 => ?_) (fun v4 => ?_)
  · refine jt_if (fun hx0 => ?_) (fun hx0 => ?_)
    · subst hx0
      refine jt_catch0 K htb rfl (by decide) (by decide) q831 q1088 ?_
      refine jr_astore_n K (L' := [some (.ref p0), some (.int p1), some (.ref p2), some (.ref xq4)]) dX0_best_12 (by decide) rfl rfl ?_
      refine jr_iconst K dX0_best_13 (v := (nI 1)) (by decide) ?_
      exact hret _ _ _ _ _ dX0_best_14
    exact JT.bot
  refine jr_i2l K dX0_best_7 ?_
  refine jr_last K dX0_best_8 ?_
  refine jr_goto K (tgt := 15) dX0_best_9 (by decide) ?_
  refine jr_iconst K dX0_best_15 (v := (nI 0)) (by decide) ?_
  exact hret _ _ _ _ _ dX0_best_16
theorem metX0_best (hG : jG l D S0 A0) (bc : Nat) (bs : Nat) (p0 : Nat) (p1 : Int32) (p2 : Nat) (Qj : Int32 → JP) : Met l yX0_best (wsW_ yX0_best cX0_best 4 (some .int) [(0, 9, 12, 13)]) (jrm 101 bc bs) (va_Pc [.ref p0, .int p1, .ref p2] (jB D S0 (JX0_best bc bs p0 p1 p2 Qj))) (va_Qi Qj (fun σ t => jRep D S0.heap.size σ t.heap) (jA S0)) bc bs (jA S0) :=
  jr_startW hG (by decide) (Nat.le_of_ble_eq_true rfl) rfl fun p e s m below meth c K hr hn htb => wX0_best K htb bc bs p0 p1 p2 Qj (fun _ _ _ _ _ d => jr_iret K hr rfl d)
theorem wX1_common_6 (K : JK p l R s m args meth c D S0 A0 10 cX1_common "MoveNotes" 12) (bc bs : Nat) (Qj : Int64 → JP) (hret : jRetL p l e R s m args below meth c Q D S0 10 cX1_common Qj) : ∀ (n : Nat) (x4_6 : Int64) (x6_6 : Int64), JR p l e R s m args below meth c Q D S0 10 bc bs (jit (FX1_common_6 Qj) (fun _ _ => jbot) n x4_6 x6_6) 6 [none, none, none, none, some (.long x4_6), none, some (.long x6_6), none, none, none] [] := by
  intro n
  induction n with
  | zero =>
    intro x4_6 x6_6
    exact JR.bot
  | succ n ih6 =>
    intro x4_6 x6_6
    show JR p l e R s m args below meth c Q D S0 10 bc bs (FX1_common_6 Qj (jit (FX1_common_6 Qj) (fun _ _ => jbot) n) x4_6 x6_6) 6 [none, none, none, none, some (.long x4_6), none, some (.long x6_6), none, none, none] []
    generalize jit (FX1_common_6 Qj) (fun _ _ => jbot) n = rec6 at ih6 ⊢
    unfold FX1_common_6
    refine jr_lload K dX1_common_6 rfl ?_
    refine jr_lconst K dX1_common_8 (v := (lN 0)) rfl ?_
    refine jr_lcmp K dX1_common_9 ?_
    refine jr_if_eq K (tgt := 31) dX1_common_10 (by decide) ?_ ?_
    · refine jr_lload K dX1_common_31 rfl ?_
      exact hret _ _ _ _ _ dX1_common_33
    · refine jr_lload K dX1_common_13 rfl ?_
      refine jr_lload K dX1_common_15 rfl ?_
      refine jr_and (fun hnz => ?_)
      refine jr_lrem K dX1_common_17 hnz ?_
      refine jr_lstore K (L' := [none, none, none, none, some (.long x4_6), none, some (.long x6_6), none, some (.long (jlrem x4_6 x6_6)), none]) dX1_common_18 (by decide) rfl rfl ?_
      refine jr_lload K dX1_common_20 rfl ?_
      refine jr_lstore K (L' := [none, none, none, none, some (.long x6_6), none, some (.long x6_6), none, some (.long (jlrem x4_6 x6_6)), none]) dX1_common_22 (by decide) rfl rfl ?_
      refine jr_lload K dX1_common_24 rfl ?_
      refine jr_lstore K (L' := [none, none, none, none, some (.long x6_6), none, some (.long (jlrem x4_6 x6_6)), none, some (.long (jlrem x4_6 x6_6)), none]) dX1_common_26 (by decide) rfl rfl ?_
      refine jr_goto K (tgt := 6) dX1_common_28 (by decide) ?_
      exact jr_weak (ih6 x6_6 (jlrem x4_6 x6_6)) ⟨rfl, rfl, trivial⟩
theorem wX1_common (K : JK p l R s m args meth c D S0 A0 10 cX1_common "MoveNotes" 12) (bc bs : Nat) (p0 : Int64) (p2 : Int64) (Qj : Int64 → JP) (hret : jRetL p l e R s m args below meth c Q D S0 10 cX1_common Qj) : JR p l e R s m args below meth c Q D S0 10 bc bs (JX1_common p0 p2 Qj) 0 [some (.long p0), none, some (.long p2), none, none, none, none, none, none, none] [] := by
  unfold JX1_common
  refine jr_lload_n K dX1_common_0 rfl ?_
  refine jr_lstore K (L' := [some (.long p0), none, some (.long p2), none, some (.long p0), none, none, none, none, none]) dX1_common_1 (by decide) rfl rfl ?_
  refine jr_lload_n K dX1_common_3 rfl ?_
  refine jr_lstore K (L' := [some (.long p0), none, some (.long p2), none, some (.long p0), none, some (.long p2), none, none, none]) dX1_common_4 (by decide) rfl rfl ?_
  refine jr_ex (fun n6 => ?_)
  refine jr_weak (wX1_common_6 K bc bs Qj hret n6 p0 p2) ⟨rfl, rfl, trivial⟩
theorem metX1_common (hG : jG l D S0 A0) (p0 : Int64) (p2 : Int64) (Qj : Int64 → JP) : Met l yX1_common (ws_ yX1_common cX1_common 10 (some .long)) (jrm 12 0 0) (va_Pc [.long p0, .long p2] (jB D S0 (JX1_common p0 p2 Qj))) (va_Ql Qj (fun σ t => jRep D S0.heap.size σ t.heap) (jA S0)) 0 0 (jA S0) :=
  jr_start hG (by decide) (Nat.le_of_ble_eq_true rfl) rfl fun p e s m below meth c K hr hn => wX1_common K _ _ p0 p2 Qj (fun _ _ _ _ _ d => jr_lret K hr d)
theorem wX1_odds (K : JK p l R s m args meth c D S0 A0 6 cX1_odds "MoveNotes" 101) (bc : Nat) (bs : Nat) (this : Nat) (p1 : Int32) (p2 : Int32) (p3 : Int32) (Ex : Nat → Nat → JP) (Qj : Int64 → JP) (hEx : jThr p l e R s m args below meth c Q D S0 6 cX1_odds "MoveNotes" [] Ex) (hret : jRetL p l e R s m args below meth c Q D S0 6 cX1_odds Qj) : JR p l e R s m args below meth c Q D S0 6 bc bs (JX1_odds bc bs this p1 p2 p3 Ex Qj) 0 [some (.ref this), some (.int p1), some (.int p2), some (.int p3), none, none] [] := by
  unfold JX1_odds
  refine jr_iload_n K dX1_odds_0 rfl ?_
  refine jr_join (fun (k18 : Int32 → JP) => ∀ (s0_18 : Int32), JR p l e R s m args below meth c Q D S0 6 bc bs (k18 s0_18) 18 [some (.ref this), some (.int p1), some (.int p2), some (.int p3), none, none] [.int s0_18]) ?_ (fun k18 hk18 => ?_)
  · intro s0_18
    refine jr_bud (fun mc18 ms18 hmc18 hms18 => ?_)
    refine jrx_callv ⟨hmc18, hms18⟩ (jrunx_S (As := [.int s0_18]) (st := []) K (metX1_must K.hG mc18 ms18 s0_18 Ex _) mtX1_must q1108 q1107 rfl rfl (Nat.le_of_ble_eq_true rfl) (by decide) ⟨hmc18, hms18⟩ dX1_odds_18) (fun x q => hEx.1 _ _ _ _ x q (fun _ h => nomatch h)) ?_
    refine jr_aload_n K dX1_odds_21 rfl ?_
    refine jr_calli0 (jrun_V (As := []) (st := []) (ci := 1) K (metX1_reads K.hG this _) mtX1_reads mvX1_reads q596 rfl rfl rfl (Nat.le_of_ble_eq_true rfl) (by decide) ⟨Nat.zero_le _, Nat.zero_le _⟩ dX1_odds_22) (fun v22 => ?_)
    refine jr_if_ge K (tgt := 34) dX1_odds_25 (by decide) ?_ ?_
    · refine jr_aload_n K dX1_odds_34 rfl ?_
      refine jr_getA K gf_X1_31 dX1_odds_35 (fun v35 => ?_)
      refine jr_getA K gf_X1_272 dX1_odds_38 (fun v38 => ?_)
      refine jr_iconst K dX1_odds_41 (v := (nI 0)) (by decide) ?_
      refine jr_aload_n K dX1_odds_42 rfl ?_
      refine jr_getA K gf_X1_35 dX1_odds_43 (fun v43 => ?_)
      refine jr_getA K gf_X1_272 dX1_odds_46 (fun v46 => ?_)
      refine jr_iconst K dX1_odds_49 (v := (nI 0)) (by decide) ?_
      refine jr_aload_n K dX1_odds_50 rfl ?_
      refine jr_getA K gf_X1_31 dX1_odds_51 (fun v51 => ?_)
      refine jr_getI K gf_X1_269 dX1_odds_54 (fun v54 => ?_)
      refine jr_cpyI K q1423 (by decide) (Nat.le_of_ble_eq_true rfl) dX1_odds_57 ?_
      refine jr_aload_n K dX1_odds_60 rfl ?_
      refine jr_getA K gf_X1_35 dX1_odds_61 (fun v61 => ?_)
      refine jr_aload_n K dX1_odds_64 rfl ?_
      refine jr_calli0 (jrun_V (As := []) (st := [.ref v61]) (ci := 1) K (metX1_allBooks K.hG this _) mtX1_allBooks mvX1_allBooks q600 rfl rfl rfl (Nat.le_of_ble_eq_true rfl) (by decide) ⟨Nat.zero_le _, Nat.zero_le _⟩ dX1_odds_65) (fun v65 => ?_)
      refine jr_aload_n K dX1_odds_68 rfl ?_
      refine jr_getI K gf_X1_253 dX1_odds_69 (fun v69 => ?_)
      refine jr_iload_n K dX1_odds_72 rfl ?_
      refine jr_iload_n K dX1_odds_73 rfl ?_
      refine jr_calli0 (jrun_V (As := [.int v65, .int v69, .int p1, .int p2]) (st := []) (ci := 10) K (metX10_weigh K.hG v61 v65 v69 p1 p2 _) mtX10_weigh mvX10_weigh q1424 rfl rfl rfl (Nat.le_of_ble_eq_true rfl) (by decide) ⟨Nat.zero_le _, Nat.zero_le _⟩ dX1_odds_74) (fun v74 => ?_)
      refine jr_if_ne K (tgt := 84) dX1_odds_77 (by decide) ?_ ?_
      · refine jr_iload_n K dX1_odds_84 rfl ?_
        refine jr_aload_n K dX1_odds_85 rfl ?_
        refine jr_getA K gf_X1_31 dX1_odds_86 (fun v86 => ?_)
        refine jr_getI K gf_X1_269 dX1_odds_89 (fun v89 => ?_)
        refine jr_icmp_lt K (tgt := 99) dX1_odds_92 (by decide) ?_ ?_
        · refine jr_aload_n K dX1_odds_99 rfl ?_
          refine jr_getA K gf_X1_35 dX1_odds_100 (fun v100 => ?_)
          refine jr_getL K gf_X1_319 dX1_odds_103 (fun v103 => ?_)
          refine jr_aload_n K dX1_odds_106 rfl ?_
          refine jr_getA K gf_X1_35 dX1_odds_107 (fun v107 => ?_)
          refine jr_getL K gf_X1_323 dX1_odds_110 (fun v110 => ?_)
          refine jr_calll0 (jrun_S (As := [.long v103, .long v110]) (st := []) K (metX1_common K.hG v103 v110 _) mtX1_common q1431 q1430 rfl rfl (Nat.le_of_ble_eq_true rfl) (by decide) ⟨Nat.zero_le _, Nat.zero_le _⟩ dX1_odds_113) (fun v113 => ?_)
          refine jr_lstore K (L' := [some (.ref this), some (.int p1), some (.int p2), some (.int p3), some (.long v113), none]) dX1_odds_116 (by decide) rfl rfl ?_
          refine jr_iload_n K dX1_odds_118 rfl ?_
          refine jr_if_eq K (tgt := 135) dX1_odds_119 (by decide) ?_ ?_
          · refine jr_aload_n K dX1_odds_135 rfl ?_
            refine jr_getA K gf_X1_35 dX1_odds_136 (fun v136 => ?_)
            refine jr_getL K gf_X1_319 dX1_odds_139 (fun v139 => ?_)
            refine jr_lload K dX1_odds_142 rfl ?_
            refine jr_and (fun hnz => ?_)
            refine jr_ldiv K dX1_odds_144 hnz ?_
            exact hret _ _ _ _ _ dX1_odds_145
          · refine jr_aload_n K dX1_odds_122 rfl ?_
            refine jr_getA K gf_X1_35 dX1_odds_123 (fun v123 => ?_)
            refine jr_getL K gf_X1_323 dX1_odds_126 (fun v126 => ?_)
            refine jr_lload K dX1_odds_129 rfl ?_
            refine jr_and (fun hnz => ?_)
            refine jr_ldiv K dX1_odds_131 hnz ?_
            refine jr_goto K (tgt := 145) dX1_odds_132 (by decide) ?_
            exact hret _ _ _ _ _ dX1_odds_145
        · refine jr_ldc2 K (v := (-3)) q1429 (by decide) dX1_odds_95 ?_
          exact hret _ _ _ _ _ dX1_odds_98
      · refine jr_ldc2 K (v := (-2)) q1428 (by decide) dX1_odds_80 ?_
        exact hret _ _ _ _ _ dX1_odds_83
    · refine jr_aload_n K dX1_odds_28 rfl ?_
      refine jr_getI K gf_X1_253 dX1_odds_29 (fun v29 => ?_)
      refine jr_i2l K dX1_odds_32 ?_
      exact hret _ _ _ _ _ dX1_odds_33
  refine jr_join (fun (k17 : JP) => JR p l e R s m args below meth c Q D S0 6 bc bs k17 17 [some (.ref this), some (.int p1), some (.int p2), some (.int p3), none, none] []) ?_ (fun k17 hk17 => ?_)
  · refine jr_iconst K dX1_odds_17 (v := (nI 0)) (by decide) ?_
    exact jr_weak (hk18 (nI 0)) ⟨rfl, rfl, rfl, rfl, trivial⟩
  refine jr_if_lt K (tgt := 17) dX1_odds_1 (by decide) ?_ ?_
  · exact jr_weak (hk17) ⟨rfl, rfl, rfl, rfl, trivial⟩
  · refine jr_iload_n K dX1_odds_4 rfl ?_
    refine jr_iconst K dX1_odds_5 (v := (nI 0)) (by decide) ?_
    refine jr_iconst K dX1_odds_6 (v := (nI 2)) (by decide) ?_
    refine jr_calli0 (jrun_S (As := [.int p2, .int (nI 0), .int (nI 2)]) (st := []) K (metX1_isIn K.hG p2 (nI 0) (nI 2) _) mtX1_isIn q586 q585 rfl rfl (Nat.le_of_ble_eq_true rfl) (by decide) ⟨Nat.zero_le _, Nat.zero_le _⟩ dX1_odds_7) (fun v7 => ?_)
    refine jr_if_eq K (tgt := 17) dX1_odds_10 (by decide) ?_ ?_
    · exact jr_weak (hk17) ⟨rfl, rfl, rfl, rfl, trivial⟩
    · refine jr_iconst K dX1_odds_13 (v := (nI 1)) (by decide) ?_
      refine jr_goto K (tgt := 18) dX1_odds_14 (by decide) ?_
      exact jr_weak (hk18 (nI 1)) ⟨rfl, rfl, rfl, rfl, trivial⟩
theorem metX1_odds (hG : jG l D S0 A0) (bc : Nat) (bs : Nat) (this : Nat) (p1 : Int32) (p2 : Int32) (p3 : Int32) (Ex : Nat → Nat → JP) (Qj : Int64 → JP) : vx_Met l yX1_odds (ws_ yX1_odds cX1_odds 6 (some .long)) (jrm 101 bc bs) (va_Pc [.ref this, .int p1, .int p2, .int p3] (jB D S0 (JX1_odds bc bs this p1 p2 p3 Ex Qj))) (va_Ql Qj (fun σ t => jRep D S0.heap.size σ t.heap) (jA S0)) (jXC D S0 Ex) bc bs (jA S0) :=
  jx_start hG (by decide) (by decide) (Nat.le_of_ble_eq_true rfl) rfl fun p e s m below meth c K hr hEx => wX1_odds K bc bs this p1 p2 p3 Ex Qj hEx (fun _ _ _ _ _ d => jr_xret jx_mq (jr_lret K hr d))
theorem wX0_odds (K : JK p l R s m args meth c D S0 A0 6 cX0_odds "MoveNotesLaw" 102) (htb : c.exceptionTable.toList = tableOf [(0, 11, 14, 13)]) (bc : Nat) (bs : Nat) (p0 : Nat) (p1 : Int32) (p2 : Int32) (p3 : Int32) (p4 : Nat) (Qj : Int32 → JP) (hret : jRetI p l e R s m args below meth c Q D S0 6 cX0_odds Qj) : JR p l e R s m args below meth c Q D S0 6 bc bs (JX0_odds bc bs p0 p1 p2 p3 p4 Qj) 0 [some (.ref p0), some (.int p1), some (.int p2), some (.int p3), some (.ref p4), none] [] := by
  unfold JX0_odds
  refine jr_aload K dX0_odds_0 rfl ?_
  refine jr_iconst K dX0_odds_2 (v := (nI 0)) (by decide) ?_
  refine jr_aload_n K dX0_odds_3 rfl ?_
  refine jr_iload_n K dX0_odds_4 rfl ?_
  refine jr_iload_n K dX0_odds_5 rfl ?_
  refine jr_iload_n K dX0_odds_6 rfl ?_
  refine jr_bud (fun mc7 ms7 hmc7 hms7 => ?_)
  refine jrx_calll ⟨hmc7, hms7⟩ (jrunx_V (As := [.int p1, .int p2, .int p3]) (st := [.int (nI 0), .ref p4]) (ci := 1) K (metX1_odds K.hG mc7 ms7 p0 p1 p2 p3 _ _) mtX1_odds mvX1_odds q1419 rfl rfl rfl (Nat.le_of_ble_eq_true rfl) (by decide) ⟨hmc7, hms7⟩ dX0_odds_7) (fun xx7 xq7 => ?_) (fun v7 => ?_)
  · refine jt_if (fun hx0 => ?_) (fun hx0 => ?_)
    · subst hx0
      refine jt_catch0 K htb rfl (by decide) (by decide) q831 q1088 ?_
      refine jr_astore K (L' := [some (.ref p0), some (.int p1), some (.int p2), some (.int p3), some (.ref p4), some (.ref xq7)]) dX0_odds_14 (by decide) rfl rfl ?_
      refine jr_iconst K dX0_odds_16 (v := (nI 1)) (by decide) ?_
      exact hret _ _ _ _ _ dX0_odds_17
    exact JT.bot
  refine jr_last K dX0_odds_10 ?_
  refine jr_goto K (tgt := 18) dX0_odds_11 (by decide) ?_
  refine jr_iconst K dX0_odds_18 (v := (nI 0)) (by decide) ?_
  exact hret _ _ _ _ _ dX0_odds_19
theorem metX0_odds (hG : jG l D S0 A0) (bc : Nat) (bs : Nat) (p0 : Nat) (p1 : Int32) (p2 : Int32) (p3 : Int32) (p4 : Nat) (Qj : Int32 → JP) : Met l yX0_odds (wsW_ yX0_odds cX0_odds 6 (some .int) [(0, 11, 14, 13)]) (jrm 102 bc bs) (va_Pc [.ref p0, .int p1, .int p2, .int p3, .ref p4] (jB D S0 (JX0_odds bc bs p0 p1 p2 p3 p4 Qj))) (va_Qi Qj (fun σ t => jRep D S0.heap.size σ t.heap) (jA S0)) bc bs (jA S0) :=
  jr_startW hG (by decide) (Nat.le_of_ble_eq_true rfl) rfl fun p e s m below meth c K hr hn htb => wX0_odds K htb bc bs p0 p1 p2 p3 p4 Qj (fun _ _ _ _ _ d => jr_iret K hr rfl d)
theorem wX1_shared_35 (K : JK p l R s m args meth c D S0 A0 13 cX1_shared "MoveNotes" 101) (bc : Nat) (bs : Nat) (this : Nat) (p1 : Int32) (p2 : Int32) (p3 : Int32) (mc2 : Nat) (ms2 : Nat) (v2 : Nat) (mc9 : Nat) (ms9 : Nat) (v9 : Nat) (k181 : Int32 → Int32 → JP) (hk181 : ∀ (y6_181 : Int32) (y7_181 : Int32), JR p l e R s m args below meth c Q D S0 13 ((bc - mc2) - mc9) ((bs - ms2) - ms9) (k181 y6_181 y7_181) 181 [none, none, none, some (.int p3), none, none, some (.int y6_181), some (.int y7_181), none, none, none, none, none] []) : ∀ (n : Nat) (x6_35 : Int32) (x7_35 : Int32) (x8_35 : Int32), JR p l e R s m args below meth c Q D S0 13 ((bc - mc2) - mc9) ((bs - ms2) - ms9) (jit (FX1_shared_35 this p1 p2 v2 v9 k181) (fun _ _ _ => jbot) n x6_35 x7_35 x8_35) 35 [some (.ref this), some (.int p1), some (.int p2), some (.int p3), some (.ref v2), some (.ref v9), some (.int x6_35), some (.int x7_35), some (.int x8_35), none, none, none, none] [] := by
  intro n
  induction n with
  | zero =>
    intro x6_35 x7_35 x8_35
    exact JR.bot
  | succ n ih35 =>
    intro x6_35 x7_35 x8_35
    show JR p l e R s m args below meth c Q D S0 13 ((bc - mc2) - mc9) ((bs - ms2) - ms9) (FX1_shared_35 this p1 p2 v2 v9 k181 (jit (FX1_shared_35 this p1 p2 v2 v9 k181) (fun _ _ _ => jbot) n) x6_35 x7_35 x8_35) 35 [some (.ref this), some (.int p1), some (.int p2), some (.int p3), some (.ref v2), some (.ref v9), some (.int x6_35), some (.int x7_35), some (.int x8_35), none, none, none, none] []
    generalize jit (FX1_shared_35 this p1 p2 v2 v9 k181) (fun _ _ _ => jbot) n = rec35 at ih35 ⊢
    unfold FX1_shared_35
    refine jr_iload K dX1_shared_35 rfl ?_
    refine jr_aload_n K dX1_shared_37 rfl ?_
    refine jr_getA K gf_X1_31 dX1_shared_38 (fun v38 => ?_)
    refine jr_getI K gf_X1_269 dX1_shared_41 (fun v41 => ?_)
    refine jr_icmp_ge K (tgt := 181) dX1_shared_44 (by decide) ?_ ?_
    · exact jr_weak (hk181 x6_35 x7_35) ⟨rfl, rfl, rfl, trivial⟩
    · refine jr_aload_n K dX1_shared_47 rfl ?_
      refine jr_getA K gf_X1_43 dX1_shared_48 (fun v48 => ?_)
      refine jr_iload_n K dX1_shared_51 rfl ?_
      refine jr_aald K (by decide) dX1_shared_52 (fun v52 => ?_)
      refine jr_iload K dX1_shared_53 rfl ?_
      refine jr_iald K dX1_shared_55 (fun v55 => ?_)
      refine jr_istore K (L' := [some (.ref this), some (.int p1), some (.int p2), some (.int p3), some (.ref v2), some (.ref v9), some (.int x6_35), some (.int x7_35), some (.int x8_35), some (.int v55), none, none, none]) dX1_shared_56 (by decide) rfl rfl ?_
      refine jr_aload_n K dX1_shared_58 rfl ?_
      refine jr_getA K gf_X1_43 dX1_shared_59 (fun v59 => ?_)
      refine jr_iload_n K dX1_shared_62 rfl ?_
      refine jr_aald K (by decide) dX1_shared_63 (fun v63 => ?_)
      refine jr_iload K dX1_shared_64 rfl ?_
      refine jr_iald K dX1_shared_66 (fun v66 => ?_)
      refine jr_istore K (L' := [some (.ref this), some (.int p1), some (.int p2), some (.int p3), some (.ref v2), some (.ref v9), some (.int x6_35), some (.int x7_35), some (.int x8_35), some (.int v55), some (.int v66), none, none]) dX1_shared_67 (by decide) rfl rfl ?_
      refine jr_iload K dX1_shared_69 rfl ?_
      refine jr_iconst K dX1_shared_71 (v := (-1)) (by decide) ?_
      refine jr_join (fun (k88 : Int32 → JP) => ∀ (s0_88 : Int32), JR p l e R s m args below meth c Q D S0 13 ((bc - mc2) - mc9) ((bs - ms2) - ms9) (k88 s0_88) 88 [some (.ref this), some (.int p1), some (.int p2), some (.int p3), some (.ref v2), some (.ref v9), some (.int x6_35), some (.int x7_35), some (.int x8_35), some (.int v55), some (.int v66), none, none] [.int s0_88]) ?_ (fun k88 hk88 => ?_)
      · intro s0_88
        refine jr_istore K (L' := [some (.ref this), some (.int p1), some (.int p2), some (.int p3), some (.ref v2), some (.ref v9), some (.int x6_35), some (.int x7_35), some (.int x8_35), some (.int v55), some (.int v66), some (.int s0_88), none]) dX1_shared_88 (by decide) rfl rfl ?_
        refine jr_iload K dX1_shared_90 rfl ?_
        refine jr_iconst K dX1_shared_92 (v := (-1)) (by decide) ?_
        refine jr_join (fun (k109 : Int32 → JP) => ∀ (s0_109 : Int32), JR p l e R s m args below meth c Q D S0 13 ((bc - mc2) - mc9) ((bs - ms2) - ms9) (k109 s0_109) 109 [some (.ref this), some (.int p1), some (.int p2), some (.int p3), some (.ref v2), some (.ref v9), some (.int x6_35), some (.int x7_35), some (.int x8_35), some (.int v55), some (.int v66), some (.int s0_88), none] [.int s0_109]) ?_ (fun k109 hk109 => ?_)
        · intro s0_109
          refine jr_istore K (L' := [some (.ref this), some (.int p1), some (.int p2), some (.int p3), some (.ref v2), some (.ref v9), some (.int x6_35), some (.int x7_35), some (.int x8_35), some (.int v55), some (.int v66), some (.int s0_88), some (.int s0_109)]) dX1_shared_109 (by decide) rfl rfl ?_
          refine jr_iload K dX1_shared_111 rfl ?_
          refine jr_iload K dX1_shared_113 rfl ?_
          refine jr_join (fun (k152 : Int32 → JP) => ∀ (s1_152 : Int32), JR p l e R s m args below meth c Q D S0 13 ((bc - mc2) - mc9) ((bs - ms2) - ms9) (k152 s1_152) 152 [some (.ref this), some (.int p1), some (.int p2), some (.int p3), some (.ref v2), some (.ref v9), none, some (.int x7_35), some (.int x8_35), none, none, some (.int s0_88), some (.int s0_109)] [.int s1_152, .int x6_35]) ?_ (fun k152 hk152 => ?_)
          · intro s1_152
            refine jr_iadd K dX1_shared_152 ?_
            refine jr_istore K (L' := [some (.ref this), some (.int p1), some (.int p2), some (.int p3), some (.ref v2), some (.ref v9), some (.int (x6_35 + s1_152)), some (.int x7_35), some (.int x8_35), none, none, some (.int s0_88), some (.int s0_109)]) dX1_shared_153 (by decide) rfl rfl ?_
            refine jr_iload K dX1_shared_155 rfl ?_
            refine jr_iload K dX1_shared_157 rfl ?_
            refine jr_join (fun (k172 : Int32 → JP) => ∀ (s1_172 : Int32), JR p l e R s m args below meth c Q D S0 13 ((bc - mc2) - mc9) ((bs - ms2) - ms9) (k172 s1_172) 172 [some (.ref this), some (.int p1), some (.int p2), some (.int p3), some (.ref v2), some (.ref v9), some (.int (x6_35 + s1_152)), none, some (.int x8_35), none, none, none, none] [.int s1_172, .int x7_35]) ?_ (fun k172 hk172 => ?_)
            · intro s1_172
              refine jr_iadd K dX1_shared_172 ?_
              refine jr_istore K (L' := [some (.ref this), some (.int p1), some (.int p2), some (.int p3), some (.ref v2), some (.ref v9), some (.int (x6_35 + s1_152)), some (.int (x7_35 + s1_172)), some (.int x8_35), none, none, none, none]) dX1_shared_173 (by decide) rfl rfl ?_
              refine jr_iinc K (v := (x8_35 + (nI 1))) (L' := [some (.ref this), some (.int p1), some (.int p2), some (.int p3), some (.ref v2), some (.ref v9), some (.int (x6_35 + s1_152)), some (.int (x7_35 + s1_172)), some (.int (x8_35 + (nI 1))), none, none, none, none]) dX1_shared_175 rfl rfl (by decide) rfl rfl ?_
              refine jr_goto K (tgt := 35) dX1_shared_178 (by decide) ?_
              exact jr_weak (ih35 (x6_35 + s1_152) (x7_35 + s1_172) (x8_35 + (nI 1))) ⟨rfl, rfl, rfl, rfl, rfl, rfl, rfl, rfl, rfl, trivial⟩
            refine jr_join (fun (k171 : JP) => JR p l e R s m args below meth c Q D S0 13 ((bc - mc2) - mc9) ((bs - ms2) - ms9) k171 171 [some (.ref this), some (.int p1), some (.int p2), some (.int p3), some (.ref v2), some (.ref v9), some (.int (x6_35 + s1_152)), none, some (.int x8_35), none, none, none, none] [.int x7_35]) ?_ (fun k171 hk171 => ?_)
            · refine jr_iconst K dX1_shared_171 (v := (nI 0)) (by decide) ?_
              exact jr_weak (hk172 (nI 0)) ⟨rfl, rfl, rfl, rfl, rfl, rfl, rfl, rfl, trivial⟩
            refine jr_if_le K (tgt := 171) dX1_shared_159 (by decide) ?_ ?_
            · exact jr_weak (hk171) ⟨rfl, rfl, rfl, rfl, rfl, rfl, rfl, rfl, trivial⟩
            · refine jr_iload K dX1_shared_162 rfl ?_
              refine jr_if_ne K (tgt := 171) dX1_shared_164 (by decide) ?_ ?_
              · exact jr_weak (hk171) ⟨rfl, rfl, rfl, rfl, rfl, rfl, rfl, rfl, trivial⟩
              · refine jr_iconst K dX1_shared_167 (v := (nI 1)) (by decide) ?_
                refine jr_goto K (tgt := 172) dX1_shared_168 (by decide) ?_
                exact jr_weak (hk172 (nI 1)) ⟨rfl, rfl, rfl, rfl, rfl, rfl, rfl, rfl, trivial⟩
          refine jr_join (fun (k151 : JP) => JR p l e R s m args below meth c Q D S0 13 ((bc - mc2) - mc9) ((bs - ms2) - ms9) k151 151 [some (.ref this), some (.int p1), some (.int p2), some (.int p3), some (.ref v2), some (.ref v9), none, some (.int x7_35), some (.int x8_35), none, none, some (.int s0_88), some (.int s0_109)] [.int x6_35]) ?_ (fun k151 hk151 => ?_)
          · refine jr_iconst K dX1_shared_151 (v := (nI 0)) (by decide) ?_
            exact jr_weak (hk152 (nI 0)) ⟨rfl, rfl, rfl, rfl, rfl, rfl, rfl, rfl, rfl, rfl, trivial⟩
          refine jr_if_le K (tgt := 151) dX1_shared_115 (by decide) ?_ ?_
          · exact jr_weak (hk151) ⟨rfl, rfl, rfl, rfl, rfl, rfl, rfl, rfl, rfl, rfl, trivial⟩
          · refine jr_iload K dX1_shared_118 rfl ?_
            refine jr_iload K dX1_shared_120 rfl ?_
            refine jr_icmp_ne K (tgt := 151) dX1_shared_122 (by decide) ?_ ?_
            · exact jr_weak (hk151) ⟨rfl, rfl, rfl, rfl, rfl, rfl, rfl, rfl, rfl, rfl, trivial⟩
            · refine jr_aload K dX1_shared_125 rfl ?_
              refine jr_getA K gf_X1_193 dX1_shared_127 (fun v127 => ?_)
              refine jr_iload K dX1_shared_130 rfl ?_
              refine jr_aald K (by decide) dX1_shared_132 (fun v132 => ?_)
              refine jr_aload K dX1_shared_133 rfl ?_
              refine jr_getA K gf_X1_193 dX1_shared_135 (fun v135 => ?_)
              refine jr_iload K dX1_shared_138 rfl ?_
              refine jr_aald K (by decide) dX1_shared_140 (fun v140 => ?_)
              refine jr_calli0 (jrun_V (As := [.ref v140]) (st := [.int x6_35]) (ci := 23) K (metX23_isNearly K.hG v132 v140 _) mtX23_isNearly mvX23_isNearly q1440 rfl rfl rfl (Nat.le_of_ble_eq_true rfl) (by decide) ⟨Nat.zero_le _, Nat.zero_le _⟩ dX1_shared_141) (fun v141 => ?_)
              refine jr_if_eq K (tgt := 151) dX1_shared_144 (by decide) ?_ ?_
              · exact jr_weak (hk151) ⟨rfl, rfl, rfl, rfl, rfl, rfl, rfl, rfl, rfl, rfl, trivial⟩
              · refine jr_iconst K dX1_shared_147 (v := (nI 1)) (by decide) ?_
                refine jr_goto K (tgt := 152) dX1_shared_148 (by decide) ?_
                exact jr_weak (hk152 (nI 1)) ⟨rfl, rfl, rfl, rfl, rfl, rfl, rfl, rfl, rfl, rfl, trivial⟩
        refine jr_icmp_ne K (tgt := 100) dX1_shared_93 (by decide) ?_ ?_
        · refine jr_aload_n K dX1_shared_100 rfl ?_
          refine jr_getA K gf_X1_40 dX1_shared_101 (fun v101 => ?_)
          refine jr_iload_n K dX1_shared_104 rfl ?_
          refine jr_aald K (by decide) dX1_shared_105 (fun v105 => ?_)
          refine jr_iload K dX1_shared_106 rfl ?_
          refine jr_iald K dX1_shared_108 (fun v108 => ?_)
          exact jr_weak (hk109 v108) ⟨rfl, rfl, rfl, rfl, rfl, rfl, rfl, rfl, rfl, rfl, rfl, rfl, trivial⟩
        · refine jr_iconst K dX1_shared_96 (v := (nI 0)) (by decide) ?_
          refine jr_goto K (tgt := 109) dX1_shared_97 (by decide) ?_
          exact jr_weak (hk109 (nI 0)) ⟨rfl, rfl, rfl, rfl, rfl, rfl, rfl, rfl, rfl, rfl, rfl, rfl, trivial⟩
      refine jr_icmp_ne K (tgt := 79) dX1_shared_72 (by decide) ?_ ?_
      · refine jr_aload_n K dX1_shared_79 rfl ?_
        refine jr_getA K gf_X1_40 dX1_shared_80 (fun v80 => ?_)
        refine jr_iload_n K dX1_shared_83 rfl ?_
        refine jr_aald K (by decide) dX1_shared_84 (fun v84 => ?_)
        refine jr_iload K dX1_shared_85 rfl ?_
        refine jr_iald K dX1_shared_87 (fun v87 => ?_)
        exact jr_weak (hk88 v87) ⟨rfl, rfl, rfl, rfl, rfl, rfl, rfl, rfl, rfl, rfl, rfl, trivial⟩
      · refine jr_iconst K dX1_shared_75 (v := (nI 0)) (by decide) ?_
        refine jr_goto K (tgt := 88) dX1_shared_76 (by decide) ?_
        exact jr_weak (hk88 (nI 0)) ⟨rfl, rfl, rfl, rfl, rfl, rfl, rfl, rfl, rfl, rfl, rfl, trivial⟩
theorem wX1_shared (K : JK p l R s m args meth c D S0 A0 13 cX1_shared "MoveNotes" 101) (bc : Nat) (bs : Nat) (this : Nat) (p1 : Int32) (p2 : Int32) (p3 : Int32) (Ex : Nat → Nat → JP) (Qj : Int32 → JP) (hEx : jThr p l e R s m args below meth c Q D S0 13 cX1_shared "MoveNotes" [] Ex) (hret : jRetI p l e R s m args below meth c Q D S0 13 cX1_shared Qj) : JR p l e R s m args below meth c Q D S0 13 bc bs (JX1_shared bc bs this p1 p2 p3 Ex Qj) 0 [some (.ref this), some (.int p1), some (.int p2), some (.int p3), none, none, none, none, none, none, none, none, none] [] := by
  unfold JX1_shared
  refine jr_aload_n K dX1_shared_0 rfl ?_
  refine jr_iload_n K dX1_shared_1 rfl ?_
  refine jr_bud (fun mc2 ms2 hmc2 hms2 => ?_)
  refine jrx_callr ⟨hmc2, hms2⟩ (jrunx_V (As := [.int p1]) (st := []) (ci := 1) K (metX1_bookAt K.hG mc2 ms2 this p1 Ex _) mtX1_bookAt mvX1_bookAt q1242 rfl rfl rfl (Nat.le_of_ble_eq_true rfl) (by decide) ⟨hmc2, hms2⟩ dX1_shared_2) (fun x q => hEx.1 _ _ _ _ x q (fun _ h => nomatch h)) (fun v2 => ?_)
  refine jr_astore K (L' := [some (.ref this), some (.int p1), some (.int p2), some (.int p3), some (.ref v2), none, none, none, none, none, none, none, none]) dX1_shared_5 (by decide) rfl rfl ?_
  refine jr_aload_n K dX1_shared_7 rfl ?_
  refine jr_iload_n K dX1_shared_8 rfl ?_
  refine jr_bud (fun mc9 ms9 hmc9 hms9 => ?_)
  refine jrx_callr ⟨hmc9, hms9⟩ (jrunx_V (As := [.int p2]) (st := []) (ci := 1) K (metX1_bookAt K.hG mc9 ms9 this p2 Ex _) mtX1_bookAt mvX1_bookAt q1242 rfl rfl rfl (Nat.le_of_ble_eq_true rfl) (by decide) ⟨hmc9, hms9⟩ dX1_shared_9) (fun x q => hEx.1 _ _ _ _ x q (fun _ h => nomatch h)) (fun v9 => ?_)
  refine jr_astore K (L' := [some (.ref this), some (.int p1), some (.int p2), some (.int p3), some (.ref v2), some (.ref v9), none, none, none, none, none, none, none]) dX1_shared_12 (by decide) rfl rfl ?_
  refine jr_aload_n K dX1_shared_14 rfl ?_
  refine jr_calli0 (jrun_V (As := []) (st := []) (ci := 1) K (metX1_reads K.hG this _) mtX1_reads mvX1_reads q596 rfl rfl rfl (Nat.le_of_ble_eq_true rfl) (by decide) ⟨Nat.zero_le _, Nat.zero_le _⟩ dX1_shared_15) (fun v15 => ?_)
  refine jr_if_ge K (tgt := 26) dX1_shared_18 (by decide) ?_ ?_
  · refine jr_iconst K dX1_shared_26 (v := (nI 0)) (by decide) ?_
    refine jr_istore K (L' := [some (.ref this), some (.int p1), some (.int p2), some (.int p3), some (.ref v2), some (.ref v9), some (.int (nI 0)), none, none, none, none, none, none]) dX1_shared_27 (by decide) rfl rfl ?_
    refine jr_iconst K dX1_shared_29 (v := (nI 0)) (by decide) ?_
    refine jr_istore K (L' := [some (.ref this), some (.int p1), some (.int p2), some (.int p3), some (.ref v2), some (.ref v9), some (.int (nI 0)), some (.int (nI 0)), none, none, none, none, none]) dX1_shared_30 (by decide) rfl rfl ?_
    refine jr_iconst K dX1_shared_32 (v := (nI 0)) (by decide) ?_
    refine jr_istore K (L' := [some (.ref this), some (.int p1), some (.int p2), some (.int p3), some (.ref v2), some (.ref v9), some (.int (nI 0)), some (.int (nI 0)), some (.int (nI 0)), none, none, none, none]) dX1_shared_33 (by decide) rfl rfl ?_
    refine jr_ex (fun n35 => ?_)
    refine jr_weak (wX1_shared_35 K bc bs this p1 p2 p3 mc2 ms2 v2 mc9 ms9 v9 _ ?_ n35 (nI 0) (nI 0) (nI 0)) ⟨rfl, rfl, rfl, rfl, rfl, rfl, rfl, rfl, rfl, trivial⟩
    · intro y6_181 y7_181
      refine jr_iload_n K dX1_shared_181 rfl ?_
      refine jr_if_ne K (tgt := 190) dX1_shared_182 (by decide) ?_ ?_
      · refine jr_iload K dX1_shared_190 rfl ?_
        refine jr_iload K dX1_shared_192 rfl ?_
        refine jr_icmp_le K (tgt := 201) dX1_shared_194 (by decide) ?_ ?_
        · refine jr_iconst K dX1_shared_201 (v := (nI 0)) (by decide) ?_
          exact hret _ _ _ _ _ dX1_shared_202
        · refine jr_iconst K dX1_shared_197 (v := (nI 1)) (by decide) ?_
          refine jr_goto K (tgt := 202) dX1_shared_198 (by decide) ?_
          exact hret _ _ _ _ _ dX1_shared_202
      · refine jr_iload K dX1_shared_185 rfl ?_
        refine jr_goto K (tgt := 202) dX1_shared_187 (by decide) ?_
        exact hret _ _ _ _ _ dX1_shared_202
  · refine jr_aload_n K dX1_shared_21 rfl ?_
    refine jr_getI K gf_X1_253 dX1_shared_22 (fun v22 => ?_)
    exact hret _ _ _ _ _ dX1_shared_25
theorem metX1_shared (hG : jG l D S0 A0) (bc : Nat) (bs : Nat) (this : Nat) (p1 : Int32) (p2 : Int32) (p3 : Int32) (Ex : Nat → Nat → JP) (Qj : Int32 → JP) : vx_Met l yX1_shared (ws_ yX1_shared cX1_shared 13 (some .int)) (jrm 101 bc bs) (va_Pc [.ref this, .int p1, .int p2, .int p3] (jB D S0 (JX1_shared bc bs this p1 p2 p3 Ex Qj))) (va_Qi Qj (fun σ t => jRep D S0.heap.size σ t.heap) (jA S0)) (jXC D S0 Ex) bc bs (jA S0) :=
  jx_start hG (by decide) (by decide) (Nat.le_of_ble_eq_true rfl) rfl fun p e s m below meth c K hr hEx => wX1_shared K bc bs this p1 p2 p3 Ex Qj hEx (fun _ _ _ _ _ d => jr_xret jx_mq (jr_iret K hr rfl d))
theorem wX0_shared (K : JK p l R s m args meth c D S0 A0 6 cX0_shared "MoveNotesLaw" 102) (htb : c.exceptionTable.toList = tableOf [(0, 12, 15, 25)]) (bc : Nat) (bs : Nat) (p0 : Nat) (p1 : Int32) (p2 : Int32) (p3 : Int32) (p4 : Nat) (Qj : Int32 → JP) (hret : jRetI p l e R s m args below meth c Q D S0 6 cX0_shared Qj) : JR p l e R s m args below meth c Q D S0 6 bc bs (JX0_shared bc bs p0 p1 p2 p3 p4 Qj) 0 [some (.ref p0), some (.int p1), some (.int p2), some (.int p3), some (.ref p4), none] [] := by
  unfold JX0_shared
  refine jr_aload K dX0_shared_0 rfl ?_
  refine jr_iconst K dX0_shared_2 (v := (nI 0)) (by decide) ?_
  refine jr_aload_n K dX0_shared_3 rfl ?_
  refine jr_iload_n K dX0_shared_4 rfl ?_
  refine jr_iload_n K dX0_shared_5 rfl ?_
  refine jr_iload_n K dX0_shared_6 rfl ?_
  refine jr_bud (fun mc7 ms7 hmc7 hms7 => ?_)
  refine jrx_calli ⟨hmc7, hms7⟩ (jrunx_V (As := [.int p1, .int p2, .int p3]) (st := [.int (nI 0), .ref p4]) (ci := 1) K (metX1_shared K.hG mc7 ms7 p0 p1 p2 p3 _ _) mtX1_shared mvX1_shared q1436 rfl rfl rfl (Nat.le_of_ble_eq_true rfl) (by decide) ⟨hmc7, hms7⟩ dX0_shared_7) (fun xx7 xq7 => ?_) (fun v7 => ?_)
  · refine jt_if (fun hx0 => ?_) (fun hx0 => ?_)
    · subst hx0
      refine jt_catch0 K htb rfl (by decide) (by decide) q1155 q1199 ?_
      refine jr_astore K (L' := [some (.ref p0), some (.int p1), some (.int p2), some (.int p3), some (.ref p4), some (.ref xq7)]) dX0_shared_15 (by decide) rfl rfl ?_
      refine jr_iconst K dX0_shared_17 (v := (nI 1)) (by decide) ?_
      exact hret _ _ _ _ _ dX0_shared_18
    exact JT.bot
  refine jr_i2l K dX0_shared_10 ?_
  refine jr_last K dX0_shared_11 ?_
  refine jr_goto K (tgt := 19) dX0_shared_12 (by decide) ?_
  refine jr_iconst K dX0_shared_19 (v := (nI 0)) (by decide) ?_
  exact hret _ _ _ _ _ dX0_shared_20
theorem metX0_shared (hG : jG l D S0 A0) (bc : Nat) (bs : Nat) (p0 : Nat) (p1 : Int32) (p2 : Int32) (p3 : Int32) (p4 : Nat) (Qj : Int32 → JP) : Met l yX0_shared (wsW_ yX0_shared cX0_shared 6 (some .int) [(0, 12, 15, 25)]) (jrm 102 bc bs) (va_Pc [.ref p0, .int p1, .int p2, .int p3, .ref p4] (jB D S0 (JX0_shared bc bs p0 p1 p2 p3 p4 Qj))) (va_Qi Qj (fun σ t => jRep D S0.heap.size σ t.heap) (jA S0)) bc bs (jA S0) :=
  jr_startW hG (by decide) (Nat.le_of_ble_eq_true rfl) rfl fun p e s m below meth c K hr hn htb => wX0_shared K htb bc bs p0 p1 p2 p3 p4 Qj (fun _ _ _ _ _ d => jr_iret K hr rfl d)
theorem wX1_alike_31 (K : JK p l R s m args meth c D S0 A0 7 cX1_alike "MoveNotes" 14) (bc : Nat) (bs : Nat) (this : Nat) (mc2 : Nat) (ms2 : Nat) (v2 : Nat) (mc8 : Nat) (ms8 : Nat) (v8 : Nat) (x5_19 : Int32) (k162 : JP) (hk162 : JR p l e R s m args below meth c Q D S0 7 ((bc - mc2) - mc8) ((bs - ms2) - ms8) k162 162 [some (.ref this), none, none, some (.ref v2), some (.ref v8), some (.int x5_19), none] []) : ∀ (n : Nat) (x6_31 : Int32), JR p l e R s m args below meth c Q D S0 7 ((bc - mc2) - mc8) ((bs - ms2) - ms8) (jit (FX1_alike_31 this v2 v8 x5_19 k162) (fun _ => jbot) n x6_31) 31 [some (.ref this), none, none, some (.ref v2), some (.ref v8), some (.int x5_19), some (.int x6_31)] [] := by
  intro n
  induction n with
  | zero =>
    intro x6_31
    exact JR.bot
  | succ n ih31 =>
    intro x6_31
    show JR p l e R s m args below meth c Q D S0 7 ((bc - mc2) - mc8) ((bs - ms2) - ms8) (FX1_alike_31 this v2 v8 x5_19 k162 (jit (FX1_alike_31 this v2 v8 x5_19 k162) (fun _ => jbot) n) x6_31) 31 [some (.ref this), none, none, some (.ref v2), some (.ref v8), some (.int x5_19), some (.int x6_31)] []
    generalize jit (FX1_alike_31 this v2 v8 x5_19 k162) (fun _ => jbot) n = rec31 at ih31 ⊢
    unfold FX1_alike_31
    refine jr_iload K dX1_alike_31 rfl ?_
    refine jr_if_lt K (tgt := 162) dX1_alike_33 (by decide) ?_ ?_
    · exact jr_weak (hk162) ⟨rfl, rfl, rfl, rfl, trivial⟩
    · refine jr_iload K dX1_alike_36 rfl ?_
      refine jr_aload_n K dX1_alike_38 rfl ?_
      refine jr_getI K gf_X1_107 dX1_alike_39 (fun v39 => ?_)
      refine jr_join (fun (k156 : JP) => JR p l e R s m args below meth c Q D S0 7 ((bc - mc2) - mc8) ((bs - ms2) - ms8) k156 156 [some (.ref this), none, none, some (.ref v2), some (.ref v8), some (.int x5_19), some (.int x6_31)] []) ?_ (fun k156 hk156 => ?_)
      · refine jr_iinc K (v := (x6_31 + (-1))) (L' := [some (.ref this), none, none, some (.ref v2), some (.ref v8), some (.int x5_19), some (.int (x6_31 + (-1)))]) dX1_alike_156 rfl rfl (by decide) rfl rfl ?_
        refine jr_goto K (tgt := 31) dX1_alike_159 (by decide) ?_
        exact jr_weak (ih31 (x6_31 + (-1))) ⟨rfl, rfl, rfl, rfl, rfl, trivial⟩
      refine jr_join (fun (k55 : JP) => JR p l e R s m args below meth c Q D S0 7 ((bc - mc2) - mc8) ((bs - ms2) - ms8) k55 55 [some (.ref this), none, none, some (.ref v2), some (.ref v8), some (.int x5_19), some (.int x6_31)] []) ?_ (fun k55 hk55 => ?_)
      · refine jr_aload_n K dX1_alike_55 rfl ?_
        refine jr_getA K gf_X1_49 dX1_alike_56 (fun v56 => ?_)
        refine jr_iload K dX1_alike_59 rfl ?_
        refine jr_aald K (by decide) dX1_alike_61 (fun v61 => ?_)
        refine jr_iload K dX1_alike_62 rfl ?_
        refine jr_iconst K dX1_alike_64 (v := (nI 0)) (by decide) ?_
        refine jr_iast K dX1_alike_65 ?_
        refine jr_goto K (tgt := 156) dX1_alike_66 (by decide) ?_
        exact jr_weak (hk156) ⟨rfl, rfl, rfl, rfl, rfl, trivial⟩
      refine jr_icmp_eq K (tgt := 55) dX1_alike_42 (by decide) ?_ ?_
      · exact jr_weak (hk55) ⟨rfl, rfl, rfl, rfl, rfl, trivial⟩
      · refine jr_iload K dX1_alike_45 rfl ?_
        refine jr_aload K dX1_alike_47 rfl ?_
        refine jr_getI K gf_X1_107 dX1_alike_49 (fun v49 => ?_)
        refine jr_icmp_ne K (tgt := 69) dX1_alike_52 (by decide) ?_ ?_
        · refine jr_aload_n K dX1_alike_69 rfl ?_
          refine jr_getA K gf_X1_193 dX1_alike_70 (fun v70 => ?_)
          refine jr_iload K dX1_alike_73 rfl ?_
          refine jr_aald K (by decide) dX1_alike_75 (fun v75 => ?_)
          refine jr_aload K dX1_alike_76 rfl ?_
          refine jr_getA K gf_X1_193 dX1_alike_78 (fun v78 => ?_)
          refine jr_iload K dX1_alike_81 rfl ?_
          refine jr_aald K (by decide) dX1_alike_83 (fun v83 => ?_)
          refine jr_calli0 (jrun_V (As := [.ref v83]) (st := []) (ci := 23) K (metX23_isLike K.hG v75 v83 _) mtX23_isLike mvX23_isLike q1283 rfl rfl rfl (Nat.le_of_ble_eq_true rfl) (by decide) ⟨Nat.zero_le _, Nat.zero_le _⟩ dX1_alike_84) (fun v84 => ?_)
          refine jr_if_eq K (tgt := 119) dX1_alike_87 (by decide) ?_ ?_
          · refine jr_aload_n K dX1_alike_119 rfl ?_
            refine jr_getA K gf_X1_49 dX1_alike_120 (fun v120 => ?_)
            refine jr_iload K dX1_alike_123 rfl ?_
            refine jr_aald K (by decide) dX1_alike_125 (fun v125 => ?_)
            refine jr_iload K dX1_alike_126 rfl ?_
            refine jr_aload_n K dX1_alike_128 rfl ?_
            refine jr_getA K gf_X1_49 dX1_alike_129 (fun v129 => ?_)
            refine jr_iload K dX1_alike_132 rfl ?_
            refine jr_iconst K dX1_alike_134 (v := (nI 1)) (by decide) ?_
            refine jr_iadd K dX1_alike_135 ?_
            refine jr_aald K (by decide) dX1_alike_136 (fun v136 => ?_)
            refine jr_iload K dX1_alike_137 rfl ?_
            refine jr_iald K dX1_alike_139 (fun v139 => ?_)
            refine jr_aload_n K dX1_alike_140 rfl ?_
            refine jr_getA K gf_X1_49 dX1_alike_141 (fun v141 => ?_)
            refine jr_iload K dX1_alike_144 rfl ?_
            refine jr_aald K (by decide) dX1_alike_146 (fun v146 => ?_)
            refine jr_iload K dX1_alike_147 rfl ?_
            refine jr_iconst K dX1_alike_149 (v := (nI 1)) (by decide) ?_
            refine jr_iadd K dX1_alike_150 ?_
            refine jr_iald K dX1_alike_151 (fun v151 => ?_)
            refine jr_max K q1448 (by decide) (Nat.le_of_ble_eq_true rfl) dX1_alike_152 ?_
            refine jr_iast K dX1_alike_155 ?_
            exact jr_weak (hk156) ⟨rfl, rfl, rfl, rfl, rfl, trivial⟩
          · refine jr_aload_n K dX1_alike_90 rfl ?_
            refine jr_getA K gf_X1_49 dX1_alike_91 (fun v91 => ?_)
            refine jr_iload K dX1_alike_94 rfl ?_
            refine jr_aald K (by decide) dX1_alike_96 (fun v96 => ?_)
            refine jr_iload K dX1_alike_97 rfl ?_
            refine jr_aload_n K dX1_alike_99 rfl ?_
            refine jr_getA K gf_X1_49 dX1_alike_100 (fun v100 => ?_)
            refine jr_iload K dX1_alike_103 rfl ?_
            refine jr_iconst K dX1_alike_105 (v := (nI 1)) (by decide) ?_
            refine jr_iadd K dX1_alike_106 ?_
            refine jr_aald K (by decide) dX1_alike_107 (fun v107 => ?_)
            refine jr_iload K dX1_alike_108 rfl ?_
            refine jr_iconst K dX1_alike_110 (v := (nI 1)) (by decide) ?_
            refine jr_iadd K dX1_alike_111 ?_
            refine jr_iald K dX1_alike_112 (fun v112 => ?_)
            refine jr_iconst K dX1_alike_113 (v := (nI 1)) (by decide) ?_
            refine jr_iadd K dX1_alike_114 ?_
            refine jr_iast K dX1_alike_115 ?_
            refine jr_goto K (tgt := 156) dX1_alike_116 (by decide) ?_
            exact jr_weak (hk156) ⟨rfl, rfl, rfl, rfl, rfl, trivial⟩
        · exact jr_weak (hk55) ⟨rfl, rfl, rfl, rfl, rfl, trivial⟩
theorem wX1_alike_19 (K : JK p l R s m args meth c D S0 A0 7 cX1_alike "MoveNotes" 14) (bc : Nat) (bs : Nat) (this : Nat) (mc2 : Nat) (ms2 : Nat) (v2 : Nat) (mc8 : Nat) (ms8 : Nat) (v8 : Nat) (k168 : JP) (hk168 : JR p l e R s m args below meth c Q D S0 7 ((bc - mc2) - mc8) ((bs - ms2) - ms8) k168 168 [some (.ref this), none, none, none, none, none, none] []) : ∀ (n : Nat) (x5_19 : Int32), JR p l e R s m args below meth c Q D S0 7 ((bc - mc2) - mc8) ((bs - ms2) - ms8) (jit (FX1_alike_19 this v2 v8 k168) (fun _ => jbot) n x5_19) 19 [some (.ref this), none, none, some (.ref v2), some (.ref v8), some (.int x5_19), none] [] := by
  intro n
  induction n with
  | zero =>
    intro x5_19
    exact JR.bot
  | succ n ih19 =>
    intro x5_19
    show JR p l e R s m args below meth c Q D S0 7 ((bc - mc2) - mc8) ((bs - ms2) - ms8) (FX1_alike_19 this v2 v8 k168 (jit (FX1_alike_19 this v2 v8 k168) (fun _ => jbot) n) x5_19) 19 [some (.ref this), none, none, some (.ref v2), some (.ref v8), some (.int x5_19), none] []
    generalize jit (FX1_alike_19 this v2 v8 k168) (fun _ => jbot) n = rec19 at ih19 ⊢
    unfold FX1_alike_19
    refine jr_iload K dX1_alike_19 rfl ?_
    refine jr_if_lt K (tgt := 168) dX1_alike_21 (by decide) ?_ ?_
    · exact jr_weak (hk168) ⟨rfl, trivial⟩
    · refine jr_aload K dX1_alike_24 rfl ?_
      refine jr_getI K gf_X1_107 dX1_alike_26 (fun v26 => ?_)
      refine jr_istore K (L' := [some (.ref this), none, none, some (.ref v2), some (.ref v8), some (.int x5_19), some (.int v26)]) dX1_alike_29 (by decide) rfl rfl ?_
      refine jr_ex (fun n31 => ?_)
      refine jr_weak (wX1_alike_31 K bc bs this mc2 ms2 v2 mc8 ms8 v8 x5_19 _ ?_ n31 v26) ⟨rfl, rfl, rfl, rfl, rfl, trivial⟩
      · refine jr_iinc K (v := (x5_19 + (-1))) (L' := [some (.ref this), none, none, some (.ref v2), some (.ref v8), some (.int (x5_19 + (-1))), none]) dX1_alike_162 rfl rfl (by decide) rfl rfl ?_
        refine jr_goto K (tgt := 19) dX1_alike_165 (by decide) ?_
        exact jr_weak (ih19 (x5_19 + (-1))) ⟨rfl, rfl, rfl, rfl, trivial⟩
theorem wX1_alike (K : JK p l R s m args meth c D S0 A0 7 cX1_alike "MoveNotes" 14) (bc : Nat) (bs : Nat) (this : Nat) (p1 : Int32) (p2 : Int32) (Ex : Nat → Nat → JP) (Qj : Int32 → JP) (hEx : jThr p l e R s m args below meth c Q D S0 7 cX1_alike "MoveNotes" [] Ex) (hret : jRetI p l e R s m args below meth c Q D S0 7 cX1_alike Qj) : JR p l e R s m args below meth c Q D S0 7 bc bs (JX1_alike bc bs this p1 p2 Ex Qj) 0 [some (.ref this), some (.int p1), some (.int p2), none, none, none, none] [] := by
  unfold JX1_alike
  refine jr_aload_n K dX1_alike_0 rfl ?_
  refine jr_iload_n K dX1_alike_1 rfl ?_
  refine jr_bud (fun mc2 ms2 hmc2 hms2 => ?_)
  refine jrx_callr ⟨hmc2, hms2⟩ (jrunx_V (As := [.int p1]) (st := []) (ci := 1) K (metX1_bookAt K.hG mc2 ms2 this p1 Ex _) mtX1_bookAt mvX1_bookAt q1242 rfl rfl rfl (Nat.le_of_ble_eq_true rfl) (by decide) ⟨hmc2, hms2⟩ dX1_alike_2) (fun x q => hEx.1 _ _ _ _ x q (fun _ h => nomatch h)) (fun v2 => ?_)
  refine jr_astore_n K (L' := [some (.ref this), some (.int p1), some (.int p2), some (.ref v2), none, none, none]) dX1_alike_5 (by decide) rfl rfl ?_
  refine jr_aload_n K dX1_alike_6 rfl ?_
  refine jr_iload_n K dX1_alike_7 rfl ?_
  refine jr_bud (fun mc8 ms8 hmc8 hms8 => ?_)
  refine jrx_callr ⟨hmc8, hms8⟩ (jrunx_V (As := [.int p2]) (st := []) (ci := 1) K (metX1_bookAt K.hG mc8 ms8 this p2 Ex _) mtX1_bookAt mvX1_bookAt q1242 rfl rfl rfl (Nat.le_of_ble_eq_true rfl) (by decide) ⟨hmc8, hms8⟩ dX1_alike_8) (fun x q => hEx.1 _ _ _ _ x q (fun _ h => nomatch h)) (fun v8 => ?_)
  refine jr_astore K (L' := [some (.ref this), some (.int p1), some (.int p2), some (.ref v2), some (.ref v8), none, none]) dX1_alike_11 (by decide) rfl rfl ?_
  refine jr_aload_n K dX1_alike_13 rfl ?_
  refine jr_getI K gf_X1_107 dX1_alike_14 (fun v14 => ?_)
  refine jr_istore K (L' := [some (.ref this), some (.int p1), some (.int p2), some (.ref v2), some (.ref v8), some (.int v14), none]) dX1_alike_17 (by decide) rfl rfl ?_
  refine jr_ex (fun n19 => ?_)
  refine jr_weak (wX1_alike_19 K bc bs this mc2 ms2 v2 mc8 ms8 v8 _ ?_ n19 v14) ⟨rfl, rfl, rfl, rfl, trivial⟩
  · refine jr_aload_n K dX1_alike_168 rfl ?_
    refine jr_getA K gf_X1_49 dX1_alike_169 (fun v169 => ?_)
    refine jr_iconst K dX1_alike_172 (v := (nI 0)) (by decide) ?_
    refine jr_aald K (by decide) dX1_alike_173 (fun v173 => ?_)
    refine jr_iconst K dX1_alike_174 (v := (nI 0)) (by decide) ?_
    refine jr_iald K dX1_alike_175 (fun v175 => ?_)
    exact hret _ _ _ _ _ dX1_alike_176
theorem metX1_alike (hG : jG l D S0 A0) (bc : Nat) (bs : Nat) (this : Nat) (p1 : Int32) (p2 : Int32) (Ex : Nat → Nat → JP) (Qj : Int32 → JP) : vx_Met l yX1_alike (ws_ yX1_alike cX1_alike 7 (some .int)) (jrm 14 bc bs) (va_Pc [.ref this, .int p1, .int p2] (jB D S0 (JX1_alike bc bs this p1 p2 Ex Qj))) (va_Qi Qj (fun σ t => jRep D S0.heap.size σ t.heap) (jA S0)) (jXC D S0 Ex) bc bs (jA S0) :=
  jx_start hG (by decide) (by decide) (Nat.le_of_ble_eq_true rfl) rfl fun p e s m below meth c K hr hEx => wX1_alike K bc bs this p1 p2 Ex Qj hEx (fun _ _ _ _ _ d => jr_xret jx_mq (jr_iret K hr rfl d))
theorem wX0_alike (K : JK p l R s m args meth c D S0 A0 5 cX0_alike "MoveNotesLaw" 15) (htb : c.exceptionTable.toList = tableOf [(0, 10, 13, 25)]) (bc : Nat) (bs : Nat) (p0 : Nat) (p1 : Int32) (p2 : Int32) (p3 : Nat) (Qj : Int32 → JP) (hret : jRetI p l e R s m args below meth c Q D S0 5 cX0_alike Qj) : JR p l e R s m args below meth c Q D S0 5 bc bs (JX0_alike bc bs p0 p1 p2 p3 Qj) 0 [some (.ref p0), some (.int p1), some (.int p2), some (.ref p3), none] [] := by
  unfold JX0_alike
  refine jr_aload_n K dX0_alike_0 rfl ?_
  refine jr_iconst K dX0_alike_1 (v := (nI 0)) (by decide) ?_
  refine jr_aload_n K dX0_alike_2 rfl ?_
  refine jr_iload_n K dX0_alike_3 rfl ?_
  refine jr_iload_n K dX0_alike_4 rfl ?_
  refine jr_bud (fun mc5 ms5 hmc5 hms5 => ?_)
  refine jrx_calli ⟨hmc5, hms5⟩ (jrunx_V (As := [.int p1, .int p2]) (st := [.int (nI 0), .ref p3]) (ci := 1) K (metX1_alike K.hG mc5 ms5 p0 p1 p2 _ _) mtX1_alike mvX1_alike q1444 rfl rfl rfl (Nat.le_of_ble_eq_true rfl) (by decide) ⟨hmc5, hms5⟩ dX0_alike_5) (fun xx5 xq5 => ?_) (fun v5 => ?_)
  · refine jt_if (fun hx0 => ?_) (fun hx0 => ?_)
    · subst hx0
      refine jt_catch0 K htb rfl (by decide) (by decide) q1155 q1199 ?_
      refine jr_astore K (L' := [some (.ref p0), some (.int p1), some (.int p2), some (.ref p3), some (.ref xq5)]) dX0_alike_13 (by decide) rfl rfl ?_
      refine jr_iconst K dX0_alike_15 (v := (nI 1)) (by decide) ?_
      exact hret _ _ _ _ _ dX0_alike_16
    exact JT.bot
  refine jr_i2l K dX0_alike_8 ?_
  refine jr_last K dX0_alike_9 ?_
  refine jr_goto K (tgt := 17) dX0_alike_10 (by decide) ?_
  refine jr_iconst K dX0_alike_17 (v := (nI 0)) (by decide) ?_
  exact hret _ _ _ _ _ dX0_alike_18
theorem metX0_alike (hG : jG l D S0 A0) (bc : Nat) (bs : Nat) (p0 : Nat) (p1 : Int32) (p2 : Int32) (p3 : Nat) (Qj : Int32 → JP) : Met l yX0_alike (wsW_ yX0_alike cX0_alike 5 (some .int) [(0, 10, 13, 25)]) (jrm 15 bc bs) (va_Pc [.ref p0, .int p1, .int p2, .ref p3] (jB D S0 (JX0_alike bc bs p0 p1 p2 p3 Qj))) (va_Qi Qj (fun σ t => jRep D S0.heap.size σ t.heap) (jA S0)) bc bs (jA S0) :=
  jr_startW hG (by decide) (Nat.le_of_ble_eq_true rfl) rfl fun p e s m below meth c K hr hn htb => wX0_alike K htb bc bs p0 p1 p2 p3 Qj (fun _ _ _ _ _ d => jr_iret K hr rfl d)
theorem wX1_way (K : JK p l R s m args meth c D S0 A0 6 cX1_way "MoveNotes" 100) (bc : Nat) (bs : Nat) (this : Nat) (p1 : Int32) (Ex : Nat → Nat → JP) (Qj : Int32 → JP) (hEx : jThr p l e R s m args below meth c Q D S0 6 cX1_way "MoveNotes" [] Ex) (hret : jRetI p l e R s m args below meth c Q D S0 6 cX1_way Qj) : JR p l e R s m args below meth c Q D S0 6 bc bs (JX1_way bc bs this p1 Ex Qj) 0 [some (.ref this), some (.int p1), none, none, none, none] [] := by
  unfold JX1_way
  refine jr_aload_n K dX1_way_0 rfl ?_
  refine jr_iload_n K dX1_way_1 rfl ?_
  refine jr_bud (fun mc2 ms2 hmc2 hms2 => ?_)
  refine jrx_callr ⟨hmc2, hms2⟩ (jrunx_V (As := [.int p1]) (st := []) (ci := 1) K (metX1_bookAt K.hG mc2 ms2 this p1 Ex _) mtX1_bookAt mvX1_bookAt q1242 rfl rfl rfl (Nat.le_of_ble_eq_true rfl) (by decide) ⟨hmc2, hms2⟩ dX1_way_2) (fun x q => hEx.1 _ _ _ _ x q (fun _ h => nomatch h)) (fun v2 => ?_)
  refine jr_astore_n K (L' := [some (.ref this), some (.int p1), some (.ref v2), none, none, none]) dX1_way_5 (by decide) rfl rfl ?_
  refine jr_aload_n K dX1_way_6 rfl ?_
  refine jr_getI K gf_X1_182 dX1_way_7 (fun v7 => ?_)
  refine jr_istore_n K (L' := [some (.ref this), some (.int p1), some (.ref v2), some (.int v7), none, none]) dX1_way_10 (by decide) rfl rfl ?_
  refine jr_aload_n K dX1_way_11 rfl ?_
  refine jr_iconst K dX1_way_12 (v := (nI 0)) (by decide) ?_
  refine jr_put K pf_X1_182 dX1_way_13 rfl rfl ?_
  refine jr_aload_n K dX1_way_16 rfl ?_
  refine jr_getA K gf_X1_35 dX1_way_17 (fun v17 => ?_)
  refine jr_iconst K dX1_way_20 (v := (nI 1)) (by decide) ?_
  refine jr_iload_n K dX1_way_21 rfl ?_
  refine jr_ishl K dX1_way_22 ?_
  refine jr_calli0 (jrun_V (As := [.int (jshl (nI 1) p1)]) (st := []) (ci := 10) K (metX10_least K.hG v17 (jshl (nI 1) p1) _) mtX10_least mvX10_least q604 rfl rfl rfl (Nat.le_of_ble_eq_true rfl) (by decide) ⟨Nat.zero_le _, Nat.zero_le _⟩ dX1_way_23) (fun v23 => ?_)
  refine jr_istore K (L' := [some (.ref this), some (.int p1), some (.ref v2), some (.int v7), some (.int v23), none]) dX1_way_26 (by decide) rfl rfl ?_
  refine jr_aload_n K dX1_way_28 rfl ?_
  refine jr_iconst K dX1_way_29 (v := (nI 1)) (by decide) ?_
  refine jr_put K pf_X1_182 dX1_way_30 rfl rfl ?_
  refine jr_aload_n K dX1_way_33 rfl ?_
  refine jr_getA K gf_X1_35 dX1_way_34 (fun v34 => ?_)
  refine jr_iconst K dX1_way_37 (v := (nI 1)) (by decide) ?_
  refine jr_iload_n K dX1_way_38 rfl ?_
  refine jr_ishl K dX1_way_39 ?_
  refine jr_calli0 (jrun_V (As := [.int (jshl (nI 1) p1)]) (st := []) (ci := 10) K (metX10_least K.hG v34 (jshl (nI 1) p1) _) mtX10_least mvX10_least q604 rfl rfl rfl (Nat.le_of_ble_eq_true rfl) (by decide) ⟨Nat.zero_le _, Nat.zero_le _⟩ dX1_way_40) (fun v40 => ?_)
  refine jr_istore K (L' := [some (.ref this), some (.int p1), some (.ref v2), some (.int v7), some (.int v23), some (.int v40)]) dX1_way_43 (by decide) rfl rfl ?_
  refine jr_aload_n K dX1_way_45 rfl ?_
  refine jr_iload_n K dX1_way_46 rfl ?_
  refine jr_put K pf_X1_182 dX1_way_47 rfl rfl ?_
  refine jr_iload K dX1_way_50 rfl ?_
  refine jr_bipush K dX1_way_52 (v := (-2)) (by decide) ?_
  refine jr_icmp_eq K (tgt := 64) dX1_way_54 (by decide) ?_ ?_
  · refine jr_bipush K dX1_way_64 (v := (-2)) (by decide) ?_
    exact hret _ _ _ _ _ dX1_way_66
  · refine jr_iload K dX1_way_57 rfl ?_
    refine jr_bipush K dX1_way_59 (v := (-2)) (by decide) ?_
    refine jr_icmp_ne K (tgt := 67) dX1_way_61 (by decide) ?_ ?_
    · refine jr_iload K dX1_way_67 rfl ?_
      refine jr_iconst K dX1_way_69 (v := (-1)) (by decide) ?_
      refine jr_join (fun (k81 : Int32 → JP) => ∀ (s0_81 : Int32), JR p l e R s m args below meth c Q D S0 6 (bc - mc2) (bs - ms2) (k81 s0_81) 81 [none, none, none, none, none, some (.int v40)] [.int s0_81]) ?_ (fun k81 hk81 => ?_)
      · intro s0_81
        refine jr_istore K (L' := [none, none, none, none, some (.int s0_81), some (.int v40)]) dX1_way_81 (by decide) rfl rfl ?_
        refine jr_iload K dX1_way_83 rfl ?_
        refine jr_iconst K dX1_way_85 (v := (-1)) (by decide) ?_
        refine jr_join (fun (k97 : Int32 → JP) => ∀ (s0_97 : Int32), JR p l e R s m args below meth c Q D S0 6 (bc - mc2) (bs - ms2) (k97 s0_97) 97 [none, none, none, none, some (.int s0_81), none] [.int s0_97]) ?_ (fun k97 hk97 => ?_)
        · intro s0_97
          refine jr_istore K (L' := [none, none, none, none, some (.int s0_81), some (.int s0_97)]) dX1_way_97 (by decide) rfl rfl ?_
          refine jr_iload K dX1_way_99 rfl ?_
          refine jr_iload K dX1_way_101 rfl ?_
          refine jr_icmp_ne K (tgt := 111) dX1_way_103 (by decide) ?_ ?_
          · refine jr_iload K dX1_way_111 rfl ?_
            refine jr_iload K dX1_way_113 rfl ?_
            refine jr_icmp_ge K (tgt := 122) dX1_way_115 (by decide) ?_ ?_
            · refine jr_iconst K dX1_way_122 (v := (nI 1)) (by decide) ?_
              exact hret _ _ _ _ _ dX1_way_123
            · refine jr_iconst K dX1_way_118 (v := (nI 0)) (by decide) ?_
              refine jr_goto K (tgt := 123) dX1_way_119 (by decide) ?_
              exact hret _ _ _ _ _ dX1_way_123
          · refine jr_bipush K dX1_way_106 (v := (-3)) (by decide) ?_
            refine jr_goto K (tgt := 123) dX1_way_108 (by decide) ?_
            exact hret _ _ _ _ _ dX1_way_123
        refine jr_icmp_ne K (tgt := 95) dX1_way_86 (by decide) ?_ ?_
        · refine jr_iload K dX1_way_95 rfl ?_
          exact jr_weak (hk97 v40) ⟨rfl, trivial⟩
        · refine jr_ldcw K (v := (nI 1000000)) q792 (by decide) dX1_way_89 ?_
          refine jr_goto K (tgt := 97) dX1_way_92 (by decide) ?_
          exact jr_weak (hk97 (nI 1000000)) ⟨rfl, trivial⟩
      refine jr_icmp_ne K (tgt := 79) dX1_way_70 (by decide) ?_ ?_
      · refine jr_iload K dX1_way_79 rfl ?_
        exact jr_weak (hk81 v23) ⟨rfl, trivial⟩
      · refine jr_ldcw K (v := (nI 1000000)) q792 (by decide) dX1_way_73 ?_
        refine jr_goto K (tgt := 81) dX1_way_76 (by decide) ?_
        exact jr_weak (hk81 (nI 1000000)) ⟨rfl, trivial⟩
    · refine jr_bipush K dX1_way_64 (v := (-2)) (by decide) ?_
      exact hret _ _ _ _ _ dX1_way_66
theorem metX1_way (hG : jG l D S0 A0) (bc : Nat) (bs : Nat) (this : Nat) (p1 : Int32) (Ex : Nat → Nat → JP) (Qj : Int32 → JP) : vx_Met l yX1_way (ws_ yX1_way cX1_way 6 (some .int)) (jrm 100 bc bs) (va_Pc [.ref this, .int p1] (jB D S0 (JX1_way bc bs this p1 Ex Qj))) (va_Qi Qj (fun σ t => jRep D S0.heap.size σ t.heap) (jA S0)) (jXC D S0 Ex) bc bs (jA S0) :=
  jx_start hG (by decide) (by decide) (Nat.le_of_ble_eq_true rfl) rfl fun p e s m below meth c K hr hEx => wX1_way K bc bs this p1 Ex Qj hEx (fun _ _ _ _ _ d => jr_xret jx_mq (jr_iret K hr rfl d))
theorem wX0_way (K : JK p l R s m args meth c D S0 A0 4 cX0_way "MoveNotesLaw" 101) (htb : c.exceptionTable.toList = tableOf [(0, 9, 12, 25)]) (bc : Nat) (bs : Nat) (p0 : Nat) (p1 : Int32) (p2 : Nat) (Qj : Int32 → JP) (hret : jRetI p l e R s m args below meth c Q D S0 4 cX0_way Qj) : JR p l e R s m args below meth c Q D S0 4 bc bs (JX0_way bc bs p0 p1 p2 Qj) 0 [some (.ref p0), some (.int p1), some (.ref p2), none] [] := by
  unfold JX0_way
  refine jr_aload_n K dX0_way_0 rfl ?_
  refine jr_iconst K dX0_way_1 (v := (nI 0)) (by decide) ?_
  refine jr_aload_n K dX0_way_2 rfl ?_
  refine jr_iload_n K dX0_way_3 rfl ?_
  refine jr_bud (fun mc4 ms4 hmc4 hms4 => ?_)
  refine jrx_calli ⟨hmc4, hms4⟩ (jrunx_V (As := [.int p1]) (st := [.int (nI 0), .ref p2]) (ci := 1) K (metX1_way K.hG mc4 ms4 p0 p1 _ _) mtX1_way mvX1_way q1452 rfl rfl rfl (Nat.le_of_ble_eq_true rfl) (by decide) ⟨hmc4, hms4⟩ dX0_way_4) (fun xx4 xq4 => ?_) (fun v4 => ?_)
  · refine jt_if (fun hx0 => ?_) (fun hx0 => ?_)
    · subst hx0
      refine jt_catch0 K htb rfl (by decide) (by decide) q1155 q1199 ?_
      refine jr_astore_n K (L' := [some (.ref p0), some (.int p1), some (.ref p2), some (.ref xq4)]) dX0_way_12 (by decide) rfl rfl ?_
      refine jr_iconst K dX0_way_13 (v := (nI 1)) (by decide) ?_
      exact hret _ _ _ _ _ dX0_way_14
    exact JT.bot
  refine jr_i2l K dX0_way_7 ?_
  refine jr_last K dX0_way_8 ?_
  refine jr_goto K (tgt := 15) dX0_way_9 (by decide) ?_
  refine jr_iconst K dX0_way_15 (v := (nI 0)) (by decide) ?_
  exact hret _ _ _ _ _ dX0_way_16
theorem metX0_way (hG : jG l D S0 A0) (bc : Nat) (bs : Nat) (p0 : Nat) (p1 : Int32) (p2 : Nat) (Qj : Int32 → JP) : Met l yX0_way (wsW_ yX0_way cX0_way 4 (some .int) [(0, 9, 12, 25)]) (jrm 101 bc bs) (va_Pc [.ref p0, .int p1, .ref p2] (jB D S0 (JX0_way bc bs p0 p1 p2 Qj))) (va_Qi Qj (fun σ t => jRep D S0.heap.size σ t.heap) (jA S0)) bc bs (jA S0) :=
  jr_startW hG (by decide) (Nat.le_of_ble_eq_true rfl) rfl fun p e s m below meth c K hr hn htb => wX0_way K htb bc bs p0 p1 p2 Qj (fun _ _ _ _ _ d => jr_iret K hr rfl d)
theorem wX1_cheaper (K : JK p l R s m args meth c D S0 A0 4 cX1_cheaper "MoveNotes" 101) (bc : Nat) (bs : Nat) (this : Nat) (p1 : Int32) (Ex : Nat → Nat → JP) (Qj : Int32 → JP) (hEx : jThr p l e R s m args below meth c Q D S0 4 cX1_cheaper "MoveNotes" [] Ex) (hret : jRetI p l e R s m args below meth c Q D S0 4 cX1_cheaper Qj) : JR p l e R s m args below meth c Q D S0 4 bc bs (JX1_cheaper bc bs this p1 Ex Qj) 0 [some (.ref this), some (.int p1), none, none] [] := by
  unfold JX1_cheaper
  refine jr_iload_n K dX1_cheaper_0 rfl ?_
  refine jr_bud (fun mc1 ms1 hmc1 hms1 => ?_)
  refine jrx_callv ⟨hmc1, hms1⟩ (jrunx_S (As := [.int p1]) (st := []) K (metX1_isSlip K.hG mc1 ms1 p1 Ex _) mtX1_isSlip q1327 q1326 rfl rfl (Nat.le_of_ble_eq_true rfl) (by decide) ⟨hmc1, hms1⟩ dX1_cheaper_1) (fun x q => hEx.1 _ _ _ _ x q (fun _ h => nomatch h)) ?_
  refine jr_aload_n K dX1_cheaper_4 rfl ?_
  refine jr_calli0 (jrun_V (As := []) (st := []) (ci := 1) K (metX1_reads K.hG this _) mtX1_reads mvX1_reads q596 rfl rfl rfl (Nat.le_of_ble_eq_true rfl) (by decide) ⟨Nat.zero_le _, Nat.zero_le _⟩ dX1_cheaper_5) (fun v5 => ?_)
  refine jr_if_ge K (tgt := 16) dX1_cheaper_8 (by decide) ?_ ?_
  · refine jr_aload_n K dX1_cheaper_16 rfl ?_
    refine jr_getA K gf_X1_19 dX1_cheaper_17 (fun v17 => ?_)
    refine jr_getA K gf_X1_237 dX1_cheaper_20 (fun v20 => ?_)
    refine jr_iload_n K dX1_cheaper_23 rfl ?_
    refine jr_iald K dX1_cheaper_24 (fun v24 => ?_)
    refine jr_istore_n K (L' := [some (.ref this), some (.int p1), some (.int v24), none]) dX1_cheaper_25 (by decide) rfl rfl ?_
    refine jr_iload_n K dX1_cheaper_26 rfl ?_
    refine jr_iconst K dX1_cheaper_27 (v := (nI 2)) (by decide) ?_
    refine jr_icmp_ge K (tgt := 33) dX1_cheaper_28 (by decide) ?_ ?_
    · refine jr_aload_n K dX1_cheaper_33 rfl ?_
      refine jr_getA K gf_X1_19 dX1_cheaper_34 (fun v34 => ?_)
      refine jr_getA K gf_X1_237 dX1_cheaper_37 (fun v37 => ?_)
      refine jr_iload_n K dX1_cheaper_40 rfl ?_
      refine jr_iconst K dX1_cheaper_41 (v := (nI 1)) (by decide) ?_
      refine jr_iast K dX1_cheaper_42 ?_
      refine jr_aload_n K dX1_cheaper_43 rfl ?_
      refine jr_getA K gf_X1_35 dX1_cheaper_44 (fun v44 => ?_)
      refine jr_aload_n K dX1_cheaper_47 rfl ?_
      refine jr_calli0 (jrun_V (As := []) (st := [.ref v44]) (ci := 1) K (metX1_allBooks K.hG this _) mtX1_allBooks mvX1_allBooks q600 rfl rfl rfl (Nat.le_of_ble_eq_true rfl) (by decide) ⟨Nat.zero_le _, Nat.zero_le _⟩ dX1_cheaper_48) (fun v48 => ?_)
      refine jr_calli0 (jrun_V (As := [.int v48]) (st := []) (ci := 10) K (metX10_least K.hG v44 v48 _) mtX10_least mvX10_least q604 rfl rfl rfl (Nat.le_of_ble_eq_true rfl) (by decide) ⟨Nat.zero_le _, Nat.zero_le _⟩ dX1_cheaper_51) (fun v51 => ?_)
      refine jr_istore_n K (L' := [some (.ref this), some (.int p1), some (.int v24), some (.int v51)]) dX1_cheaper_54 (by decide) rfl rfl ?_
      refine jr_aload_n K dX1_cheaper_55 rfl ?_
      refine jr_getA K gf_X1_19 dX1_cheaper_56 (fun v56 => ?_)
      refine jr_getA K gf_X1_237 dX1_cheaper_59 (fun v59 => ?_)
      refine jr_iload_n K dX1_cheaper_62 rfl ?_
      refine jr_iload_n K dX1_cheaper_63 rfl ?_
      refine jr_iast K dX1_cheaper_64 ?_
      refine jr_iload_n K dX1_cheaper_65 rfl ?_
      refine jr_if_ge K (tgt := 73) dX1_cheaper_66 (by decide) ?_ ?_
      · refine jr_aload_n K dX1_cheaper_73 rfl ?_
        refine jr_getI K gf_X1_253 dX1_cheaper_74 (fun v74 => ?_)
        refine jr_iload_n K dX1_cheaper_77 rfl ?_
        refine jr_isub K dX1_cheaper_78 ?_
        exact hret _ _ _ _ _ dX1_cheaper_79
      · refine jr_iload_n K dX1_cheaper_69 rfl ?_
        refine jr_goto K (tgt := 79) dX1_cheaper_70 (by decide) ?_
        exact hret _ _ _ _ _ dX1_cheaper_79
    · refine jr_iconst K dX1_cheaper_31 (v := (nI 0)) (by decide) ?_
      exact hret _ _ _ _ _ dX1_cheaper_32
  · refine jr_aload_n K dX1_cheaper_11 rfl ?_
    refine jr_getI K gf_X1_253 dX1_cheaper_12 (fun v12 => ?_)
    exact hret _ _ _ _ _ dX1_cheaper_15
theorem metX1_cheaper (hG : jG l D S0 A0) (bc : Nat) (bs : Nat) (this : Nat) (p1 : Int32) (Ex : Nat → Nat → JP) (Qj : Int32 → JP) : vx_Met l yX1_cheaper (ws_ yX1_cheaper cX1_cheaper 4 (some .int)) (jrm 101 bc bs) (va_Pc [.ref this, .int p1] (jB D S0 (JX1_cheaper bc bs this p1 Ex Qj))) (va_Qi Qj (fun σ t => jRep D S0.heap.size σ t.heap) (jA S0)) (jXC D S0 Ex) bc bs (jA S0) :=
  jx_start hG (by decide) (by decide) (Nat.le_of_ble_eq_true rfl) rfl fun p e s m below meth c K hr hEx => wX1_cheaper K bc bs this p1 Ex Qj hEx (fun _ _ _ _ _ d => jr_xret jx_mq (jr_iret K hr rfl d))
theorem wX0_cheaper (K : JK p l R s m args meth c D S0 A0 4 cX0_cheaper "MoveNotesLaw" 102) (htb : c.exceptionTable.toList = tableOf [(0, 9, 12, 25)]) (bc : Nat) (bs : Nat) (p0 : Nat) (p1 : Int32) (p2 : Nat) (Qj : Int32 → JP) (hret : jRetI p l e R s m args below meth c Q D S0 4 cX0_cheaper Qj) : JR p l e R s m args below meth c Q D S0 4 bc bs (JX0_cheaper bc bs p0 p1 p2 Qj) 0 [some (.ref p0), some (.int p1), some (.ref p2), none] [] := by
  unfold JX0_cheaper
  refine jr_aload_n K dX0_cheaper_0 rfl ?_
  refine jr_iconst K dX0_cheaper_1 (v := (nI 0)) (by decide) ?_
  refine jr_aload_n K dX0_cheaper_2 rfl ?_
  refine jr_iload_n K dX0_cheaper_3 rfl ?_
  refine jr_bud (fun mc4 ms4 hmc4 hms4 => ?_)
  refine jrx_calli ⟨hmc4, hms4⟩ (jrunx_V (As := [.int p1]) (st := [.int (nI 0), .ref p2]) (ci := 1) K (metX1_cheaper K.hG mc4 ms4 p0 p1 _ _) mtX1_cheaper mvX1_cheaper q1459 rfl rfl rfl (Nat.le_of_ble_eq_true rfl) (by decide) ⟨hmc4, hms4⟩ dX0_cheaper_4) (fun xx4 xq4 => ?_) (fun v4 => ?_)
  · refine jt_if (fun hx0 => ?_) (fun hx0 => ?_)
    · subst hx0
      refine jt_catch0 K htb rfl (by decide) (by decide) q1155 q1199 ?_
      refine jr_astore_n K (L' := [some (.ref p0), some (.int p1), some (.ref p2), some (.ref xq4)]) dX0_cheaper_12 (by decide) rfl rfl ?_
      refine jr_iconst K dX0_cheaper_13 (v := (nI 1)) (by decide) ?_
      exact hret _ _ _ _ _ dX0_cheaper_14
    exact JT.bot
  refine jr_i2l K dX0_cheaper_7 ?_
  refine jr_last K dX0_cheaper_8 ?_
  refine jr_goto K (tgt := 15) dX0_cheaper_9 (by decide) ?_
  refine jr_iconst K dX0_cheaper_15 (v := (nI 0)) (by decide) ?_
  exact hret _ _ _ _ _ dX0_cheaper_16
theorem metX0_cheaper (hG : jG l D S0 A0) (bc : Nat) (bs : Nat) (p0 : Nat) (p1 : Int32) (p2 : Nat) (Qj : Int32 → JP) : Met l yX0_cheaper (wsW_ yX0_cheaper cX0_cheaper 4 (some .int) [(0, 9, 12, 25)]) (jrm 102 bc bs) (va_Pc [.ref p0, .int p1, .ref p2] (jB D S0 (JX0_cheaper bc bs p0 p1 p2 Qj))) (va_Qi Qj (fun σ t => jRep D S0.heap.size σ t.heap) (jA S0)) bc bs (jA S0) :=
  jr_startW hG (by decide) (Nat.le_of_ble_eq_true rfl) rfl fun p e s m below meth c K hr hn htb => wX0_cheaper K htb bc bs p0 p1 p2 Qj (fun _ _ _ _ _ d => jr_iret K hr rfl d)
theorem wX1_image (K : JK p l R s m args meth c D S0 A0 1 cX1_image "MoveNotes" 14) (bc bs : Nat) (this : Nat) (Qj : JP) (hret : jRetV p l e R s m args below meth c Q D S0 1 cX1_image Qj) : JR p l e R s m args below meth c Q D S0 1 bc bs (JX1_image this Qj) 0 [some (.ref this)] [] := by
  unfold JX1_image
  refine jr_aload_n K dX1_image_0 rfl ?_
  refine jr_getA K gf_X1_23 dX1_image_1 (fun v1 => ?_)
  refine jr_aload_n K dX1_image_4 rfl ?_
  refine jr_getA K gf_X1_19 dX1_image_5 (fun v5 => ?_)
  refine jr_callv0 (jrun_V (As := [.ref v5]) (st := []) (ci := 7) K (metX7_be K.hG v1 v5 _) mtX7_be mvX7_be q808 rfl rfl rfl (Nat.le_of_ble_eq_true rfl) (by decide) ⟨Nat.zero_le _, Nat.zero_le _⟩ dX1_image_8) ?_
  refine jr_aload_n K dX1_image_11 rfl ?_
  refine jr_iconst K dX1_image_12 (v := (nI 1)) (by decide) ?_
  refine jr_putZ K pf_X1_341 dX1_image_13 ?_
  exact hret _ _ _ _ dX1_image_16
theorem metX1_image (hG : jG l D S0 A0) (this : Nat) (Qj : JP) : Met l yX1_image (ws_ yX1_image cX1_image 1 none) (jrm 14 0 0) (va_Pc [.ref this] (jB D S0 (JX1_image this Qj))) (va_Qv Qj (fun σ t => jRep D S0.heap.size σ t.heap) (jA S0)) 0 0 (jA S0) :=
  jr_start hG (by decide) (Nat.le_of_ble_eq_true rfl) rfl fun p e s m below meth c K hr hn => wX1_image K _ _ this Qj (fun _ _ _ _ d => jr_vret K hr d)
theorem wX1_back (K : JK p l R s m args meth c D S0 A0 1 cX1_back "MoveNotes" 14) (bc bs : Nat) (this : Nat) (Qj : Int32 → JP) (hret : jRetZ p l e R s m args below meth c Q D S0 1 cX1_back Qj) : JR p l e R s m args below meth c Q D S0 1 bc bs (JX1_back this Qj) 0 [some (.ref this)] [] := by
  unfold JX1_back
  refine jr_aload_n K dX1_back_0 rfl ?_
  refine jr_getI K gf_X1_341 dX1_back_1 (fun v1 => ?_)
  refine jr_if_ne K (tgt := 9) dX1_back_4 (by decide) ?_ ?_
  · refine jr_aload_n K dX1_back_9 rfl ?_
    refine jr_getA K gf_X1_19 dX1_back_10 (fun v10 => ?_)
    refine jr_aload_n K dX1_back_13 rfl ?_
    refine jr_getA K gf_X1_23 dX1_back_14 (fun v14 => ?_)
    refine jr_callv0 (jrun_V (As := [.ref v14]) (st := []) (ci := 7) K (metX7_be K.hG v10 v14 _) mtX7_be mvX7_be q808 rfl rfl rfl (Nat.le_of_ble_eq_true rfl) (by decide) ⟨Nat.zero_le _, Nat.zero_le _⟩ dX1_back_17) ?_
    refine jr_aload_n K dX1_back_20 rfl ?_
    refine jr_iconst K dX1_back_21 (v := (nI 0)) (by decide) ?_
    refine jr_putZ K pf_X1_174 dX1_back_22 ?_
    refine jr_iconst K dX1_back_25 (v := (nI 1)) (by decide) ?_
    exact JR.imp (fun _ h => ⟨Or.inr rfl, h⟩) (hret _ _ _ _ _ dX1_back_26)
  · refine jr_iconst K dX1_back_7 (v := (nI 0)) (by decide) ?_
    exact JR.imp (fun _ h => ⟨Or.inl rfl, h⟩) (hret _ _ _ _ _ dX1_back_8)
theorem metX1_back (hG : jG l D S0 A0) (this : Nat) (Qj : Int32 → JP) : Met l yX1_back (ws_ yX1_back cX1_back 1 (some .boolean)) (jrm 14 0 0) (va_Pc [.ref this] (jB D S0 (JX1_back this Qj))) (va_Qi Qj (fun σ t => jRep D S0.heap.size σ t.heap) (jA S0)) 0 0 (jA S0) :=
  jr_start hG (by decide) (Nat.le_of_ble_eq_true rfl) rfl fun p e s m below meth c K hr hn => wX1_back K _ _ this Qj (fun _ _ _ _ _ d => jr_zret K hr d)
theorem wX1_count_90 (K : JK p l R s m args meth c D S0 A0 4 cX1_count "MoveNotes" 101) (bc bs : Nat) (this : Nat) (Qj : Int32 → JP) (hret : jRetI p l e R s m args below meth c Q D S0 4 cX1_count Qj) : ∀ (n : Nat) (x2_90 : Int32) (x3_90 : Int32), JR p l e R s m args below meth c Q D S0 4 bc bs (jit (FX1_count_90 this Qj) (fun _ _ => jbot) n x2_90 x3_90) 90 [some (.ref this), none, some (.int x2_90), some (.int x3_90)] [] := by
  intro n
  induction n with
  | zero =>
    intro x2_90 x3_90
    exact JR.bot
  | succ n ih90 =>
    intro x2_90 x3_90
    show JR p l e R s m args below meth c Q D S0 4 bc bs (FX1_count_90 this Qj (jit (FX1_count_90 this Qj) (fun _ _ => jbot) n) x2_90 x3_90) 90 [some (.ref this), none, some (.int x2_90), some (.int x3_90)] []
    generalize jit (FX1_count_90 this Qj) (fun _ _ => jbot) n = rec90 at ih90 ⊢
    unfold FX1_count_90
    refine jr_iload_n K dX1_count_90 rfl ?_
    refine jr_aload_n K dX1_count_91 rfl ?_
    refine jr_getA K gf_X1_19 dX1_count_92 (fun v92 => ?_)
    refine jr_getI K gf_X1_96 dX1_count_95 (fun v95 => ?_)
    refine jr_icmp_ge K (tgt := 122) dX1_count_98 (by decide) ?_ ?_
    · refine jr_iload_n K dX1_count_122 rfl ?_
      exact hret _ _ _ _ _ dX1_count_123
    · refine jr_iload_n K dX1_count_101 rfl ?_
      refine jr_aload_n K dX1_count_102 rfl ?_
      refine jr_getA K gf_X1_19 dX1_count_103 (fun v103 => ?_)
      refine jr_getA K gf_X1_99 dX1_count_106 (fun v106 => ?_)
      refine jr_iload_n K dX1_count_109 rfl ?_
      refine jr_aald K (by decide) dX1_count_110 (fun v110 => ?_)
      refine jr_getI K gf_X1_107 dX1_count_111 (fun v111 => ?_)
      refine jr_iadd K dX1_count_114 ?_
      refine jr_istore_n K (L' := [some (.ref this), none, some (.int (x2_90 + v111)), some (.int x3_90)]) dX1_count_115 (by decide) rfl rfl ?_
      refine jr_iinc K (v := (x3_90 + (nI 1))) (L' := [some (.ref this), none, some (.int (x2_90 + v111)), some (.int (x3_90 + (nI 1)))]) dX1_count_116 rfl rfl (by decide) rfl rfl ?_
      refine jr_goto K (tgt := 90) dX1_count_119 (by decide) ?_
      exact jr_weak (ih90 (x2_90 + v111) (x3_90 + (nI 1))) ⟨rfl, rfl, rfl, trivial⟩
theorem wX1_count_164 (K : JK p l R s m args meth c D S0 A0 4 cX1_count "MoveNotes" 101) (bc bs : Nat) (this : Nat) (Qj : Int32 → JP) (hret : jRetI p l e R s m args below meth c Q D S0 4 cX1_count Qj) : ∀ (n : Nat) (x2_164 : Int32) (x3_164 : Int32), JR p l e R s m args below meth c Q D S0 4 bc bs (jit (FX1_count_164 this Qj) (fun _ _ => jbot) n x2_164 x3_164) 164 [some (.ref this), none, some (.int x2_164), some (.int x3_164)] [] := by
  intro n
  induction n with
  | zero =>
    intro x2_164 x3_164
    exact JR.bot
  | succ n ih164 =>
    intro x2_164 x3_164
    show JR p l e R s m args below meth c Q D S0 4 bc bs (FX1_count_164 this Qj (jit (FX1_count_164 this Qj) (fun _ _ => jbot) n) x2_164 x3_164) 164 [some (.ref this), none, some (.int x2_164), some (.int x3_164)] []
    generalize jit (FX1_count_164 this Qj) (fun _ _ => jbot) n = rec164 at ih164 ⊢
    unfold FX1_count_164
    refine jr_iload_n K dX1_count_164 rfl ?_
    refine jr_bipush K dX1_count_165 (v := (nI 36)) (by decide) ?_
    refine jr_icmp_ge K (tgt := 222) dX1_count_167 (by decide) ?_ ?_
    · refine jr_iload_n K dX1_count_222 rfl ?_
      exact hret _ _ _ _ _ dX1_count_223
    · refine jr_iload_n K dX1_count_170 rfl ?_
      refine jr_aload_n K dX1_count_171 rfl ?_
      refine jr_getA K gf_X1_19 dX1_count_172 (fun v172 => ?_)
      refine jr_getA K gf_X1_166 dX1_count_175 (fun v175 => ?_)
      refine jr_getA K gf_X1_169 dX1_count_178 (fun v178 => ?_)
      refine jr_iload_n K dX1_count_181 rfl ?_
      refine jr_iald K dX1_count_182 (fun v182 => ?_)
      refine jr_iconst K dX1_count_183 (v := (-1)) (by decide) ?_
      refine jr_join (fun (k214 : Int32 → JP) => ∀ (s1_214 : Int32), JR p l e R s m args below meth c Q D S0 4 bc bs (k214 s1_214) 214 [some (.ref this), none, none, some (.int x3_164)] [.int s1_214, .int x2_164]) ?_ (fun k214 hk214 => ?_)
      · intro s1_214
        refine jr_iadd K dX1_count_214 ?_
        refine jr_istore_n K (L' := [some (.ref this), none, some (.int (x2_164 + s1_214)), some (.int x3_164)]) dX1_count_215 (by decide) rfl rfl ?_
        refine jr_iinc K (v := (x3_164 + (nI 1))) (L' := [some (.ref this), none, some (.int (x2_164 + s1_214)), some (.int (x3_164 + (nI 1)))]) dX1_count_216 rfl rfl (by decide) rfl rfl ?_
        refine jr_goto K (tgt := 164) dX1_count_219 (by decide) ?_
        exact jr_weak (ih164 (x2_164 + s1_214) (x3_164 + (nI 1))) ⟨rfl, rfl, rfl, trivial⟩
      refine jr_icmp_ne K (tgt := 191) dX1_count_184 (by decide) ?_ ?_
      · refine jr_aload_n K dX1_count_191 rfl ?_
        refine jr_getA K gf_X1_19 dX1_count_192 (fun v192 => ?_)
        refine jr_getA K gf_X1_142 dX1_count_195 (fun v195 => ?_)
        refine jr_aload_n K dX1_count_198 rfl ?_
        refine jr_getA K gf_X1_19 dX1_count_199 (fun v199 => ?_)
        refine jr_getA K gf_X1_166 dX1_count_202 (fun v202 => ?_)
        refine jr_getA K gf_X1_169 dX1_count_205 (fun v205 => ?_)
        refine jr_iload_n K dX1_count_208 rfl ?_
        refine jr_iald K dX1_count_209 (fun v209 => ?_)
        refine jr_aald K (by decide) dX1_count_210 (fun v210 => ?_)
        refine jr_getI K gf_X1_350 dX1_count_211 (fun v211 => ?_)
        exact jr_weak (hk214 v211) ⟨rfl, rfl, trivial⟩
      · refine jr_iconst K dX1_count_187 (v := (nI 0)) (by decide) ?_
        refine jr_goto K (tgt := 214) dX1_count_188 (by decide) ?_
        exact jr_weak (hk214 (nI 0)) ⟨rfl, rfl, trivial⟩
theorem wX1_count (K : JK p l R s m args meth c D S0 A0 4 cX1_count "MoveNotes" 101) (bc bs : Nat) (this : Nat) (p1 : Int32) (Qj : Int32 → JP) (hret : jRetI p l e R s m args below meth c Q D S0 4 cX1_count Qj) : JR p l e R s m args below meth c Q D S0 4 bc bs (JX1_count this p1 Qj) 0 [some (.ref this), some (.int p1), none, none] [] := by
  unfold JX1_count
  refine jr_iconst K dX1_count_0 (v := (nI 0)) (by decide) ?_
  refine jr_istore_n K (L' := [some (.ref this), some (.int p1), some (.int (nI 0)), none]) dX1_count_1 (by decide) rfl rfl ?_
  refine jr_iload_n K dX1_count_2 rfl ?_
  refine jr_sw (fun hsw0 => ?_) (fun hsw0 => ?_)
  · refine jr_tsIn K dX1_count_3 hsw0 (off := 45) (tgt := 48) (by decide) (by decide) rfl (by decide) ?_
    refine jr_aload_n K dX1_count_48 rfl ?_
    refine jr_getA K gf_X1_19 dX1_count_49 (fun v49 => ?_)
    refine jr_getI K gf_X1_93 dX1_count_52 (fun v52 => ?_)
    exact hret _ _ _ _ _ dX1_count_55
  refine jr_sw (fun hsw1 => ?_) (fun hsw1 => ?_)
  · refine jr_tsIn K dX1_count_3 hsw1 (off := 53) (tgt := 56) (by decide) (by decide) rfl (by decide) ?_
    refine jr_aload_n K dX1_count_56 rfl ?_
    refine jr_getA K gf_X1_19 dX1_count_57 (fun v57 => ?_)
    refine jr_getA K gf_X1_166 dX1_count_60 (fun v60 => ?_)
    refine jr_iconst K dX1_count_63 (v := (nI 0)) (by decide) ?_
    refine jr_calli0 (jrun_V (As := [.int (nI 0)]) (st := []) (ci := 8) K (metX8_men K.hG v60 (nI 0) _) mtX8_men mvX8_men q827 rfl rfl rfl (Nat.le_of_ble_eq_true rfl) (by decide) ⟨Nat.zero_le _, Nat.zero_le _⟩ dX1_count_64) (fun v64 => ?_)
    refine jr_aload_n K dX1_count_67 rfl ?_
    refine jr_getA K gf_X1_19 dX1_count_68 (fun v68 => ?_)
    refine jr_getA K gf_X1_166 dX1_count_71 (fun v71 => ?_)
    refine jr_iconst K dX1_count_74 (v := (nI 1)) (by decide) ?_
    refine jr_calli0 (jrun_V (As := [.int (nI 1)]) (st := [.int v64]) (ci := 8) K (metX8_men K.hG v71 (nI 1) _) mtX8_men mvX8_men q827 rfl rfl rfl (Nat.le_of_ble_eq_true rfl) (by decide) ⟨Nat.zero_le _, Nat.zero_le _⟩ dX1_count_75) (fun v75 => ?_)
    refine jr_iadd K dX1_count_78 ?_
    exact hret _ _ _ _ _ dX1_count_79
  refine jr_sw (fun hsw2 => ?_) (fun hsw2 => ?_)
  · refine jr_tsIn K dX1_count_3 hsw2 (off := 77) (tgt := 80) (by decide) (by decide) rfl (by decide) ?_
    refine jr_aload_n K dX1_count_80 rfl ?_
    refine jr_getA K gf_X1_19 dX1_count_81 (fun v81 => ?_)
    refine jr_getI K gf_X1_96 dX1_count_84 (fun v84 => ?_)
    exact hret _ _ _ _ _ dX1_count_87
  refine jr_sw (fun hsw3 => ?_) (fun hsw3 => ?_)
  · refine jr_tsIn K dX1_count_3 hsw3 (off := 85) (tgt := 88) (by decide) (by decide) rfl (by decide) ?_
    refine jr_iconst K dX1_count_88 (v := (nI 0)) (by decide) ?_
    refine jr_istore_n K (L' := [some (.ref this), some (.int p1), some (.int (nI 0)), some (.int (nI 0))]) dX1_count_89 (by decide) rfl rfl ?_
    refine jr_ex (fun n90 => ?_)
    refine jr_weak (wX1_count_90 K bc bs this Qj hret n90 (nI 0) (nI 0)) ⟨rfl, rfl, rfl, trivial⟩
  refine jr_sw (fun hsw4 => ?_) (fun hsw4 => ?_)
  · refine jr_tsIn K dX1_count_3 hsw4 (off := 121) (tgt := 124) (by decide) (by decide) rfl (by decide) ?_
    refine jr_aload_n K dX1_count_124 rfl ?_
    refine jr_getA K gf_X1_19 dX1_count_125 (fun v125 => ?_)
    refine jr_getI K gf_X1_243 dX1_count_128 (fun v128 => ?_)
    exact hret _ _ _ _ _ dX1_count_131
  refine jr_sw (fun hsw5 => ?_) (fun hsw5 => ?_)
  · refine jr_tsIn K dX1_count_3 hsw5 (off := 129) (tgt := 132) (by decide) (by decide) rfl (by decide) ?_
    refine jr_aload_n K dX1_count_132 rfl ?_
    refine jr_getA K gf_X1_19 dX1_count_133 (fun v133 => ?_)
    refine jr_getI K gf_X1_240 dX1_count_136 (fun v136 => ?_)
    exact hret _ _ _ _ _ dX1_count_139
  refine jr_sw (fun hsw6 => ?_) (fun hsw6 => ?_)
  · refine jr_tsIn K dX1_count_3 hsw6 (off := 137) (tgt := 140) (by decide) (by decide) rfl (by decide) ?_
    refine jr_aload_n K dX1_count_140 rfl ?_
    refine jr_calli0 (jrun_V (As := []) (st := []) (ci := 1) K (metX1_reads K.hG this _) mtX1_reads mvX1_reads q596 rfl rfl rfl (Nat.le_of_ble_eq_true rfl) (by decide) ⟨Nat.zero_le _, Nat.zero_le _⟩ dX1_count_141) (fun v141 => ?_)
    refine jr_bipush K dX1_count_144 (v := (-2)) (by decide) ?_
    refine jr_icmp_ne K (tgt := 154) dX1_count_146 (by decide) ?_ ?_
    · refine jr_aload_n K dX1_count_154 rfl ?_
      refine jr_getA K gf_X1_31 dX1_count_155 (fun v155 => ?_)
      refine jr_getI K gf_X1_347 dX1_count_158 (fun v158 => ?_)
      exact hret _ _ _ _ _ dX1_count_161
    · refine jr_bipush K dX1_count_149 (v := (-2)) (by decide) ?_
      refine jr_goto K (tgt := 161) dX1_count_151 (by decide) ?_
      exact hret _ _ _ _ _ dX1_count_161
  refine jr_sw (fun hsw7 => ?_) (fun hsw7 => ?_)
  · refine jr_tsIn K dX1_count_3 hsw7 (off := 159) (tgt := 162) (by decide) (by decide) rfl (by decide) ?_
    refine jr_iconst K dX1_count_162 (v := (nI 0)) (by decide) ?_
    refine jr_istore_n K (L' := [some (.ref this), some (.int p1), some (.int (nI 0)), some (.int (nI 0))]) dX1_count_163 (by decide) rfl rfl ?_
    refine jr_ex (fun n164 => ?_)
    refine jr_weak (wX1_count_164 K bc bs this Qj hret n164 (nI 0) (nI 0)) ⟨rfl, rfl, rfl, trivial⟩
  refine jr_tsOut K dX1_count_3 (tgt := 224) (jsw_out (n := 8) [(nI 0), (nI 1), (nI 2), (nI 3), (nI 4), (nI 5), (nI 6), (nI 7)] (by decide) (by decide) (by decide) ⟨hsw0, hsw1, hsw2, hsw3, hsw4, hsw5, hsw6, hsw7, trivial⟩) (by decide) ?_
  refine jr_iconst K dX1_count_224 (v := (-1)) (by decide) ?_
  exact hret _ _ _ _ _ dX1_count_225
theorem metX1_count (hG : jG l D S0 A0) (this : Nat) (p1 : Int32) (Qj : Int32 → JP) : Met l yX1_count (ws_ yX1_count cX1_count 4 (some .int)) (jrm 101 0 0) (va_Pc [.ref this, .int p1] (jB D S0 (JX1_count this p1 Qj))) (va_Qi Qj (fun σ t => jRep D S0.heap.size σ t.heap) (jA S0)) 0 0 (jA S0) :=
  jr_start hG (by decide) (Nat.le_of_ble_eq_true rfl) rfl fun p e s m below meth c K hr hn => wX1_count K _ _ this p1 Qj (fun _ _ _ _ _ d => jr_iret K hr rfl d)
end JW
