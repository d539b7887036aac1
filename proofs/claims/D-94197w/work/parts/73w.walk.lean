set_option maxRecDepth 100000
theorem gf_X11_102 : jGet "MoveNotesModel" 102 11 3 := jg_own in_X11 rfl (by decide) q1477 rfl
theorem gf_X11_118 : jGet "MoveNotesModel" 118 11 5 := jg_own in_X11 rfl (by decide) q1479 rfl
theorem gf_X11_121 : jGet "MoveNotesModel" 121 11 6 := jg_own in_X11 rfl (by decide) q1480 rfl
theorem gf_X11_124 : jGet "MoveNotesModel" 124 11 7 := jg_own in_X11 rfl (by decide) q1481 rfl
theorem gf_X11_13 : jGet "MoveNotesModel" 13 11 1 := jg_own in_X11 rfl (by decide) q1475 rfl
theorem gf_X11_130 : jGet "MoveNotesModel" 130 11 8 := jg_own in_X11 rfl (by decide) q1482 rfl
theorem gf_X11_153 : jGet "MoveNotesModel" 153 11 12 := jg_own in_X11 rfl (by decide) q1486 rfl
theorem gf_X11_17 : jGet "MoveNotesModel" 17 11 2 := jg_own in_X11 rfl (by decide) q1476 rfl
theorem gf_X11_180 : jGet "MoveNotesModel" 180 11 9 := jg_own in_X11 rfl (by decide) q1483 rfl
theorem gf_X11_20 : jGet "MoveNotesModel" 20 11 4 := jg_own in_X11 rfl (by decide) q1478 rfl
theorem gf_X11_24 : jGet "MoveNotesModel" 24 11 10 := jg_own in_X11 rfl (by decide) q1484 rfl
theorem gf_X11_27 : jGet "MoveNotesModel" 27 11 11 := jg_own in_X11 rfl (by decide) q1485 rfl
theorem gf_X11_3 : jGet "MoveNotesModel" 3 11 0 := jg_own in_X11 rfl (by decide) q1474 rfl
theorem gf_X11_30 : jGet "MoveNotesModel" 30 11 13 := jg_own in_X11 rfl (by decide) q1487 rfl
theorem gf_X11_314 : jGet "MoveNotesModel" 314 11 18 := jg_own in_X11 rfl (by decide) q1492 rfl
theorem gf_X11_33 : jGet "MoveNotesModel" 33 11 14 := jg_own in_X11 rfl (by decide) q1488 rfl
theorem gf_X11_347 : jGet "MoveNotesModel" 347 11 25 := jg_own in_X11 rfl (by decide) q1499 rfl
theorem gf_X11_350 : jGet "MoveNotesModel" 350 11 26 := jg_own in_X11 rfl (by decide) q1500 rfl
theorem gf_X11_359 : jGet "MoveNotesModel" 359 11 30 := jg_own in_X11 rfl (by decide) q1504 rfl
theorem gf_X11_36 : jGet "MoveNotesModel" 36 11 15 := jg_own in_X11 rfl (by decide) q1489 rfl
theorem gf_X11_368 : jGet "MoveNotesModel" 368 11 35 := jg_own in_X11 rfl (by decide) q1508 rfl
theorem gf_X11_371 : jGet "MoveNotesModel" 371 11 36 := jg_own in_X11 rfl (by decide) q1509 rfl
theorem gf_X11_374 : jGet "MoveNotesModel" 374 11 37 := jg_own in_X11 rfl (by decide) q1510 rfl
theorem gf_X11_380 : jGet "MoveNotesModel" 380 11 41 := jg_own in_X11 rfl (by decide) q1514 rfl
theorem gf_X11_383 : jGet "MoveNotesModel" 383 11 42 := jg_own in_X11 rfl (by decide) q1515 rfl
theorem gf_X11_386 : jGet "MoveNotesModel" 386 11 44 := jg_own in_X11 rfl (by decide) q1517 rfl
theorem gf_X11_389 : jGet "MoveNotesModel" 389 11 43 := jg_own in_X11 rfl (by decide) q1516 rfl
theorem gf_X11_39 : jGet "MoveNotesModel" 39 11 16 := jg_own in_X11 rfl (by decide) q1490 rfl
theorem gf_X11_398 : jGet "MoveNotesModel" 398 11 27 := jg_own in_X11 rfl (by decide) q1501 rfl
theorem gf_X11_401 : jGet "MoveNotesModel" 401 11 29 := jg_own in_X11 rfl (by decide) q1503 rfl
theorem gf_X11_404 : jGet "MoveNotesModel" 404 11 28 := jg_own in_X11 rfl (by decide) q1502 rfl
theorem gf_X11_43 : jGet "MoveNotesModel" 43 11 17 := jg_own in_X11 rfl (by decide) q1491 rfl
theorem gf_X11_459 : jGet "MoveNotesModel" 459 11 51 := jg_own in_X11 rfl (by decide) q1524 rfl
theorem gf_X11_47 : jGet "MoveNotesModel" 47 11 19 := jg_own in_X11 rfl (by decide) q1493 rfl
theorem gf_X11_50 : jGet "MoveNotesModel" 50 11 20 := jg_own in_X11 rfl (by decide) q1494 rfl
theorem gf_X11_53 : jGet "MoveNotesModel" 53 11 21 := jg_own in_X11 rfl (by decide) q1495 rfl
theorem gf_X11_56 : jGet "MoveNotesModel" 56 11 22 := jg_own in_X11 rfl (by decide) q1496 rfl
theorem gf_X11_59 : jGet "MoveNotesModel" 59 11 23 := jg_own in_X11 rfl (by decide) q1497 rfl
theorem gf_X11_62 : jGet "MoveNotesModel" 62 11 24 := jg_own in_X11 rfl (by decide) q1498 rfl
theorem gf_X11_65 : jGet "MoveNotesModel" 65 11 31 := jg_own in_X11 rfl (by decide) q1505 rfl
theorem gf_X11_68 : jGet "MoveNotesModel" 68 11 33 := jg_own in_X11 rfl (by decide) q1506 rfl
theorem gf_X11_72 : jGet "MoveNotesModel" 72 11 34 := jg_own in_X11 rfl (by decide) q1507 rfl
theorem gf_X11_75 : jGet "MoveNotesModel" 75 11 38 := jg_own in_X11 rfl (by decide) q1511 rfl
theorem gf_X11_78 : jGet "MoveNotesModel" 78 11 39 := jg_own in_X11 rfl (by decide) q1512 rfl
theorem gf_X11_81 : jGet "MoveNotesModel" 81 11 40 := jg_own in_X11 rfl (by decide) q1513 rfl
theorem gf_X11_84 : jGet "MoveNotesModel" 84 11 45 := jg_own in_X11 rfl (by decide) q1518 rfl
theorem gf_X11_87 : jGet "MoveNotesModel" 87 11 46 := jg_own in_X11 rfl (by decide) q1519 rfl
theorem gf_X11_90 : jGet "MoveNotesModel" 90 11 47 := jg_own in_X11 rfl (by decide) q1520 rfl
theorem gf_X11_93 : jGet "MoveNotesModel" 93 11 48 := jg_own in_X11 rfl (by decide) q1521 rfl
theorem gf_X11_96 : jGet "MoveNotesModel" 96 11 49 := jg_own in_X11 rfl (by decide) q1522 rfl
theorem gf_X11_99 : jGet "MoveNotesModel" 99 11 50 := jg_own in_X11 rfl (by decide) q1523 rfl
theorem pf_X11_102 {mn : String} : jPut "MoveNotesModel" mn 102 11 3 .boolean := jp_own in_X11 rfl (by decide) tyX11_ok nmX11 q1477 rfl rfl rfl
theorem pf_X11_118 {mn : String} : jPut "MoveNotesModel" mn 118 11 5 .int := jp_own in_X11 rfl (by decide) tyX11_ok nmX11 q1479 rfl rfl rfl
theorem pf_X11_121 {mn : String} : jPut "MoveNotesModel" mn 121 11 6 .int := jp_own in_X11 rfl (by decide) tyX11_ok nmX11 q1480 rfl rfl rfl
theorem pf_X11_124 {mn : String} : jPut "MoveNotesModel" mn 124 11 7 .int := jp_own in_X11 rfl (by decide) tyX11_ok nmX11 q1481 rfl rfl rfl
theorem pf_X11_13 {mn : String} (h : mn = "<init>") : jPut "MoveNotesModel" mn 13 11 1 (.array .int) := jp_fin in_X11 rfl (by decide) tyX11_ok nmX11 q1475 rfl rfl rfl h rfl
theorem pf_X11_130 {mn : String} : jPut "MoveNotesModel" mn 130 11 8 .int := jp_own in_X11 rfl (by decide) tyX11_ok nmX11 q1482 rfl rfl rfl
theorem pf_X11_153 {mn : String} : jPut "MoveNotesModel" mn 153 11 12 .int := jp_own in_X11 rfl (by decide) tyX11_ok nmX11 q1486 rfl rfl rfl
theorem pf_X11_17 {mn : String} (h : mn = "<init>") : jPut "MoveNotesModel" mn 17 11 2 (.array .int) := jp_fin in_X11 rfl (by decide) tyX11_ok nmX11 q1476 rfl rfl rfl h rfl
theorem pf_X11_180 {mn : String} : jPut "MoveNotesModel" mn 180 11 9 .int := jp_own in_X11 rfl (by decide) tyX11_ok nmX11 q1483 rfl rfl rfl
theorem pf_X11_20 {mn : String} (h : mn = "<init>") : jPut "MoveNotesModel" mn 20 11 4 (.array .byte) := jp_fin in_X11 rfl (by decide) tyX11_ok nmX11 q1478 rfl rfl rfl h rfl
theorem pf_X11_24 {mn : String} : jPut "MoveNotesModel" mn 24 11 10 .int := jp_own in_X11 rfl (by decide) tyX11_ok nmX11 q1484 rfl rfl rfl
theorem pf_X11_27 {mn : String} (h : mn = "<init>") : jPut "MoveNotesModel" mn 27 11 11 (.array .int) := jp_fin in_X11 rfl (by decide) tyX11_ok nmX11 q1485 rfl rfl rfl h rfl
theorem pf_X11_3 {mn : String} : jPut "MoveNotesModel" mn 3 11 0 .int := jp_own in_X11 rfl (by decide) tyX11_ok nmX11 q1474 rfl rfl rfl
theorem pf_X11_30 {mn : String} (h : mn = "<init>") : jPut "MoveNotesModel" mn 30 11 13 (.array .int) := jp_fin in_X11 rfl (by decide) tyX11_ok nmX11 q1487 rfl rfl rfl h rfl
theorem pf_X11_314 {mn : String} : jPut "MoveNotesModel" mn 314 11 18 .int := jp_own in_X11 rfl (by decide) tyX11_ok nmX11 q1492 rfl rfl rfl
theorem pf_X11_33 {mn : String} (h : mn = "<init>") : jPut "MoveNotesModel" mn 33 11 14 (.array .int) := jp_fin in_X11 rfl (by decide) tyX11_ok nmX11 q1488 rfl rfl rfl h rfl
theorem pf_X11_347 {mn : String} : jPut "MoveNotesModel" mn 347 11 25 .int := jp_own in_X11 rfl (by decide) tyX11_ok nmX11 q1499 rfl rfl rfl
theorem pf_X11_350 {mn : String} : jPut "MoveNotesModel" mn 350 11 26 .int := jp_own in_X11 rfl (by decide) tyX11_ok nmX11 q1500 rfl rfl rfl
theorem pf_X11_359 {mn : String} : jPut "MoveNotesModel" mn 359 11 30 .boolean := jp_own in_X11 rfl (by decide) tyX11_ok nmX11 q1504 rfl rfl rfl
theorem pf_X11_36 {mn : String} (h : mn = "<init>") : jPut "MoveNotesModel" mn 36 11 15 (.array .int) := jp_fin in_X11 rfl (by decide) tyX11_ok nmX11 q1489 rfl rfl rfl h rfl
theorem pf_X11_368 {mn : String} : jPut "MoveNotesModel" mn 368 11 35 .int := jp_own in_X11 rfl (by decide) tyX11_ok nmX11 q1508 rfl rfl rfl
theorem pf_X11_371 {mn : String} : jPut "MoveNotesModel" mn 371 11 36 .int := jp_own in_X11 rfl (by decide) tyX11_ok nmX11 q1509 rfl rfl rfl
theorem pf_X11_374 {mn : String} : jPut "MoveNotesModel" mn 374 11 37 .int := jp_own in_X11 rfl (by decide) tyX11_ok nmX11 q1510 rfl rfl rfl
theorem pf_X11_380 {mn : String} : jPut "MoveNotesModel" mn 380 11 41 .int := jp_own in_X11 rfl (by decide) tyX11_ok nmX11 q1514 rfl rfl rfl
theorem pf_X11_383 {mn : String} : jPut "MoveNotesModel" mn 383 11 42 .int := jp_own in_X11 rfl (by decide) tyX11_ok nmX11 q1515 rfl rfl rfl
theorem pf_X11_386 {mn : String} : jPut "MoveNotesModel" mn 386 11 44 .int := jp_own in_X11 rfl (by decide) tyX11_ok nmX11 q1517 rfl rfl rfl
theorem pf_X11_389 {mn : String} : jPut "MoveNotesModel" mn 389 11 43 .int := jp_own in_X11 rfl (by decide) tyX11_ok nmX11 q1516 rfl rfl rfl
theorem pf_X11_39 {mn : String} (h : mn = "<init>") : jPut "MoveNotesModel" mn 39 11 16 (.array .int) := jp_fin in_X11 rfl (by decide) tyX11_ok nmX11 q1490 rfl rfl rfl h rfl
theorem pf_X11_398 {mn : String} : jPut "MoveNotesModel" mn 398 11 27 .int := jp_own in_X11 rfl (by decide) tyX11_ok nmX11 q1501 rfl rfl rfl
theorem pf_X11_401 {mn : String} : jPut "MoveNotesModel" mn 401 11 29 .boolean := jp_own in_X11 rfl (by decide) tyX11_ok nmX11 q1503 rfl rfl rfl
theorem pf_X11_404 {mn : String} : jPut "MoveNotesModel" mn 404 11 28 .int := jp_own in_X11 rfl (by decide) tyX11_ok nmX11 q1502 rfl rfl rfl
theorem pf_X11_43 {mn : String} (h : mn = "<init>") : jPut "MoveNotesModel" mn 43 11 17 (.array .boolean) := jp_fin in_X11 rfl (by decide) tyX11_ok nmX11 q1491 rfl rfl rfl h rfl
theorem pf_X11_459 {mn : String} : jPut "MoveNotesModel" mn 459 11 51 .int := jp_own in_X11 rfl (by decide) tyX11_ok nmX11 q1524 rfl rfl rfl
theorem pf_X11_47 {mn : String} (h : mn = "<init>") : jPut "MoveNotesModel" mn 47 11 19 (.array .int) := jp_fin in_X11 rfl (by decide) tyX11_ok nmX11 q1493 rfl rfl rfl h rfl
theorem pf_X11_50 {mn : String} (h : mn = "<init>") : jPut "MoveNotesModel" mn 50 11 20 (.array .int) := jp_fin in_X11 rfl (by decide) tyX11_ok nmX11 q1494 rfl rfl rfl h rfl
theorem pf_X11_53 {mn : String} (h : mn = "<init>") : jPut "MoveNotesModel" mn 53 11 21 (.array .int) := jp_fin in_X11 rfl (by decide) tyX11_ok nmX11 q1495 rfl rfl rfl h rfl
theorem pf_X11_56 {mn : String} (h : mn = "<init>") : jPut "MoveNotesModel" mn 56 11 22 (.array .int) := jp_fin in_X11 rfl (by decide) tyX11_ok nmX11 q1496 rfl rfl rfl h rfl
theorem pf_X11_59 {mn : String} (h : mn = "<init>") : jPut "MoveNotesModel" mn 59 11 23 (.array .int) := jp_fin in_X11 rfl (by decide) tyX11_ok nmX11 q1497 rfl rfl rfl h rfl
theorem pf_X11_62 {mn : String} (h : mn = "<init>") : jPut "MoveNotesModel" mn 62 11 24 (.array .int) := jp_fin in_X11 rfl (by decide) tyX11_ok nmX11 q1498 rfl rfl rfl h rfl
theorem pf_X11_65 {mn : String} (h : mn = "<init>") : jPut "MoveNotesModel" mn 65 11 31 (.array .int) := jp_fin in_X11 rfl (by decide) tyX11_ok nmX11 q1505 rfl rfl rfl h rfl
theorem pf_X11_68 {mn : String} (h : mn = "<init>") : jPut "MoveNotesModel" mn 68 11 33 (.array .long) := jp_fin in_X11 rfl (by decide) tyX11_ok nmX11 q1506 rfl rfl rfl h rfl
theorem pf_X11_72 {mn : String} (h : mn = "<init>") : jPut "MoveNotesModel" mn 72 11 34 (.array .long) := jp_fin in_X11 rfl (by decide) tyX11_ok nmX11 q1507 rfl rfl rfl h rfl
theorem pf_X11_75 {mn : String} (h : mn = "<init>") : jPut "MoveNotesModel" mn 75 11 38 (.array .int) := jp_fin in_X11 rfl (by decide) tyX11_ok nmX11 q1511 rfl rfl rfl h rfl
theorem pf_X11_78 {mn : String} (h : mn = "<init>") : jPut "MoveNotesModel" mn 78 11 39 (.array .int) := jp_fin in_X11 rfl (by decide) tyX11_ok nmX11 q1512 rfl rfl rfl h rfl
theorem pf_X11_81 {mn : String} (h : mn = "<init>") : jPut "MoveNotesModel" mn 81 11 40 (.array .int) := jp_fin in_X11 rfl (by decide) tyX11_ok nmX11 q1513 rfl rfl rfl h rfl
theorem pf_X11_84 {mn : String} (h : mn = "<init>") : jPut "MoveNotesModel" mn 84 11 45 (.array .int) := jp_fin in_X11 rfl (by decide) tyX11_ok nmX11 q1518 rfl rfl rfl h rfl
theorem pf_X11_87 {mn : String} (h : mn = "<init>") : jPut "MoveNotesModel" mn 87 11 46 (.array .int) := jp_fin in_X11 rfl (by decide) tyX11_ok nmX11 q1519 rfl rfl rfl h rfl
theorem pf_X11_90 {mn : String} (h : mn = "<init>") : jPut "MoveNotesModel" mn 90 11 47 (.array .int) := jp_fin in_X11 rfl (by decide) tyX11_ok nmX11 q1520 rfl rfl rfl h rfl
theorem pf_X11_93 {mn : String} (h : mn = "<init>") : jPut "MoveNotesModel" mn 93 11 48 (.array .int) := jp_fin in_X11 rfl (by decide) tyX11_ok nmX11 q1521 rfl rfl rfl h rfl
theorem pf_X11_96 {mn : String} (h : mn = "<init>") : jPut "MoveNotesModel" mn 96 11 49 (.array .int) := jp_fin in_X11 rfl (by decide) tyX11_ok nmX11 q1522 rfl rfl rfl h rfl
theorem pf_X11_99 {mn : String} (h : mn = "<init>") : jPut "MoveNotesModel" mn 99 11 50 (.array .int) := jp_fin in_X11 rfl (by decide) tyX11_ok nmX11 q1523 rfl rfl rfl h rfl
theorem mtX11_init : jMt yX11_init cX11_init 2 none 0 := ⟨by decide +kernel, q112, q1471, by decide⟩
theorem mtX11_feed : jMt yX11_feed cX11_feed 7 (some .int) 5 := ⟨by decide +kernel, q112, q1642, by decide⟩
theorem mvX11_feed : jMv yX11_feed := ⟨q1640, q1641⟩
theorem mtX11_end : jMt yX11_end cX11_end 2 (some .boolean) 1 := ⟨by decide +kernel, q112, q1646, by decide⟩
theorem mvX11_end : jMv yX11_end := ⟨q1644, q1645⟩
theorem mtX11_isAt : jMt yX11_isAt cX11_isAt 3 (some .boolean) 2 := ⟨by decide +kernel, q112, q1666, by decide⟩
theorem mvX11_isAt : jMv yX11_isAt := ⟨q1665, qs37⟩
theorem mtX11_blanks : jMt yX11_blanks cX11_blanks 1 none 0 := ⟨by decide +kernel, q112, q1662, by decide⟩
theorem mvX11_blanks : jMv yX11_blanks := ⟨q1661, qs36⟩
theorem mtX11_letters : jMt yX11_letters cX11_letters 1 none 0 := ⟨by decide +kernel, q112, q1670, by decide⟩
theorem mvX11_letters : jMv yX11_letters := ⟨q1669, qs38⟩
theorem mtX11_isWord : jMt yX11_isWord cX11_isWord 4 (some .boolean) 1 := ⟨by decide +kernel, q112, q1679, by decide⟩
theorem mvX11_isWord : jMv yX11_isWord := ⟨q1678, qs40⟩
theorem mtX11_number : jMt yX11_number cX11_number 4 (some .int) 2 := ⟨by decide +kernel, q112, q1689, by decide⟩
theorem mvX11_number : jMv yX11_number := ⟨q1688, qs41⟩
theorem mtX11_readKindLine : jMt yX11_readKindLine cX11_readKindLine 3 (some .boolean) 1 := ⟨by decide +kernel, q112, q1674, by decide⟩
theorem mvX11_readKindLine : jMv yX11_readKindLine := ⟨q1673, qs39⟩
theorem mtX11_keepsAt : jMt yX11_keepsAt cX11_keepsAt 3 (some .boolean) 2 := ⟨by decide +kernel, q112, q1698, by decide⟩
theorem mvX11_keepsAt : jMv yX11_keepsAt := ⟨q1697, qs43⟩
theorem mtX11_sign : jMt yX11_sign cX11_sign 2 (some .boolean) 1 := ⟨by decide +kernel, q112, q1702, by decide⟩
theorem mvX11_sign : jMv yX11_sign := ⟨q1701, qs44⟩
theorem mtX11_factAt : jMt yX11_factAt cX11_factAt 1 (some .int) 0 := ⟨by decide +kernel, q112, q1706, by decide⟩
theorem mvX11_factAt : jMv yX11_factAt := ⟨q1705, qs45⟩
theorem mtX11_passes : jMt yX11_passes cX11_passes 2 (some .boolean) 1 := ⟨by decide +kernel, q112, q1715, by decide⟩
theorem mvX11_passes : jMv yX11_passes := ⟨q1714, qs46⟩
theorem mtX11_emits : jMt yX11_emits cX11_emits 4 none 2 := ⟨by decide +kernel, q112, q1732, by decide⟩
theorem mvX11_emits : jMv yX11_emits := ⟨q1731, qs50⟩
theorem mtX11_readPart : jMt yX11_readPart cX11_readPart 2 (some .boolean) 0 := ⟨by decide +kernel, q112, q1742, by decide⟩
theorem mvX11_readPart : jMv yX11_readPart := ⟨q1741, qs52⟩
theorem mtX11_readSum : jMt yX11_readSum cX11_readSum 1 (some .boolean) 0 := ⟨by decide +kernel, q112, q1738, by decide⟩
theorem mvX11_readSum : jMv yX11_readSum := ⟨q1737, qs51⟩
theorem mtX11_readAllOf : jMt yX11_readAllOf cX11_readAllOf 1 (some .boolean) 0 := ⟨by decide +kernel, q112, q1723, by decide⟩
theorem mvX11_readAllOf : jMv yX11_readAllOf := ⟨q1722, qs48⟩
theorem mtX11_readAtom : jMt yX11_readAtom cX11_readAtom 3 (some .boolean) 0 := ⟨by decide +kernel, q112, q1727, by decide⟩
theorem mvX11_readAtom : jMv yX11_readAtom := ⟨q1726, qs49⟩
theorem mtX11_readCond : jMt yX11_readCond cX11_readCond 1 (some .boolean) 0 := ⟨by decide +kernel, q112, q1719, by decide⟩
theorem mvX11_readCond : jMv yX11_readCond := ⟨q1718, qs47⟩
theorem mtX11_readMeasureLine : jMt yX11_readMeasureLine cX11_readMeasureLine 3 (some .boolean) 1 := ⟨by decide +kernel, q112, q1693, by decide⟩
theorem mvX11_readMeasureLine : jMv yX11_readMeasureLine := ⟨q1692, qs42⟩
theorem mtX11_readAll : jMt yX11_readAll cX11_readAll 3 (some .int) 1 := ⟨by decide +kernel, q112, q1658, by decide⟩
theorem mvX11_readAll : jMv yX11_readAll := ⟨q1657, qs35⟩
theorem mtX11_in : jMt yX11_in cX11_in 3 (some .boolean) 3 := ⟨by decide +kernel, q112, q1747, by decide⟩
theorem mtX11_throwsIf : jMt yX11_throwsIf cX11_throwsIf 3 (some .boolean) 2 := ⟨by decide +kernel, q112, q1751, by decide⟩
theorem mvX11_throwsIf : jMv yX11_throwsIf := ⟨q1750, qs53⟩
theorem mtX11_kind : jMt yX11_kind cX11_kind 5 (some .int) 1 := ⟨by decide +kernel, q112, q1654, by decide⟩
theorem mvX11_kind : jMv yX11_kind := ⟨q1652, q1653⟩
theorem mtX11_thrown : jMt yX11_thrown cX11_thrown 1 (some .int) 0 := ⟨by decide +kernel, q112, q1466, by decide⟩
theorem mvX11_thrown : jMv yX11_thrown := ⟨q1464, q1465⟩
theorem mtX11_measure : jMt yX11_measure cX11_measure 3 (some .int) 0 := ⟨by decide +kernel, q112, q1755, by decide⟩
theorem mvX11_measure : jMv yX11_measure := ⟨q1753, q1754⟩
theorem mtX11_fault : jMt yX11_fault cX11_fault 1 (some .int) 0 := ⟨by decide +kernel, q112, q1650, by decide⟩
theorem mvX11_fault : jMv yX11_fault := ⟨q1648, q1649⟩
theorem mtX11_noSquare : jMt yX11_noSquare cX11_noSquare 1 (some .boolean) 1 := ⟨by decide +kernel, q112, q1762, by decide⟩
theorem mtX11_none : jMt yX11_none cX11_none 3 (some .boolean) 2 := ⟨by decide +kernel, q112, q1770, by decide⟩
theorem mvX11_none : jMv yX11_none := ⟨q1769, qs55⟩
theorem mtX11_noKind : jMt yX11_noKind cX11_noKind 2 (some .boolean) 1 := ⟨by decide +kernel, q112, q1766, by decide⟩
theorem mvX11_noKind : jMv yX11_noKind := ⟨q1765, qs54⟩
theorem mtX11_man : jMt yX11_man cX11_man 2 (some .int) 2 := ⟨by decide +kernel, q112, q1773, by decide⟩
theorem mtX11_put : jMt yX11_put cX11_put 4 none 3 := ⟨by decide +kernel, q112, q1759, by decide⟩
theorem mvX11_put : jMv yX11_put := ⟨q1757, q1758⟩
theorem mtX11_begins : jMt yX11_begins cX11_begins 2 none 0 := ⟨by decide +kernel, q112, q1840, by decide⟩
theorem mvX11_begins : jMv yX11_begins := ⟨q1839, qs63⟩
theorem mtX11_at : jMt yX11_at cX11_at 3 (some .int) 2 := ⟨by decide +kernel, q112, q1848, by decide⟩
theorem mvX11_at : jMv yX11_at := ⟨q1847, qs65⟩
theorem mtX11_sideOf : jMt yX11_sideOf cX11_sideOf 1 (some .int) 1 := ⟨by decide +kernel, q112, q1851, by decide⟩
theorem mtX11_off : jMt yX11_off cX11_off 5 (some .int) 3 := ⟨by decide +kernel, q112, q1862, by decide⟩
theorem mtX11_may : jMt yX11_may cX11_may 4 none 3 := ⟨by decide +kernel, q112, q1866, by decide⟩
theorem mvX11_may : jMv yX11_may := ⟨q1865, qs68⟩
theorem mtX11_along : jMt yX11_along cX11_along 10 none 6 := ⟨by decide +kernel, q112, q1859, by decide⟩
theorem mvX11_along : jMv yX11_along := ⟨q1858, qs67⟩
theorem mtX11_leaps : jMt yX11_leaps cX11_leaps 5 none 2 := ⟨by decide +kernel, q112, q1870, by decide⟩
theorem mvX11_leaps : jMv yX11_leaps := ⟨q1869, qs69⟩
theorem mtX11_bites : jMt yX11_bites cX11_bites 6 none 3 := ⟨by decide +kernel, q112, q1874, by decide⟩
theorem mvX11_bites : jMv yX11_bites := ⟨q1873, qs70⟩
theorem mtX11_goes : jMt yX11_goes cX11_goes 11 none 2 := ⟨by decide +kernel, q112, q1855, by decide⟩
theorem mvX11_goes : jMv yX11_goes := ⟨q1854, qs66⟩
theorem mtX11_finds : jMt yX11_finds cX11_finds 4 none 2 := ⟨by decide +kernel, q112, q1844, by decide⟩
theorem mvX11_finds : jMv yX11_finds := ⟨q1843, qs64⟩
theorem mtX11_manyAt : jMt yX11_manyAt cX11_manyAt 4 (some .int) 1 := ⟨by decide +kernel, q112, q1878, by decide⟩
theorem mvX11_manyAt : jMv yX11_manyAt := ⟨q1877, qs71⟩
theorem mtX11_moveAt : jMt yX11_moveAt cX11_moveAt 5 (some .int) 2 := ⟨by decide +kernel, q112, q1882, by decide⟩
theorem mvX11_moveAt : jMv yX11_moveAt := ⟨q1881, qs72⟩
theorem mtX11_moves : jMt yX11_moves cX11_moves 3 (some .int) 2 := ⟨by decide +kernel, q112, q1836, by decide⟩
theorem mvX11_moves : jMv yX11_moves := ⟨q1834, q1835⟩
theorem mtX11_book : jMt yX11_book cX11_book 3 (some .int) 1 := ⟨by decide +kernel, q112, q1777, by decide⟩
theorem mvX11_book : jMv yX11_book := ⟨q1775, q1776⟩
theorem mtX11_noBook : jMt yX11_noBook cX11_noBook 2 (some .boolean) 1 := ⟨by decide +kernel, q112, q1785, by decide⟩
theorem mvX11_noBook : jMv yX11_noBook := ⟨q1784, qs56⟩
theorem mtX11_badNote : jMt yX11_badNote cX11_badNote 3 (some .boolean) 3 := ⟨by decide +kernel, q112, q1788, by decide⟩
theorem mtX11_ofBook : jMt yX11_ofBook cX11_ofBook 3 (some .int) 2 := ⟨by decide +kernel, q112, q1796, by decide⟩
theorem mvX11_ofBook : jMv yX11_ofBook := ⟨q1795, qs58⟩
theorem mtX11_notes : jMt yX11_notes cX11_notes 2 (some .int) 1 := ⟨by decide +kernel, q112, q1792, by decide⟩
theorem mvX11_notes : jMv yX11_notes := ⟨q1791, qs57⟩
theorem mtX11_setsNote : jMt yX11_setsNote cX11_setsNote 8 none 6 := ⟨by decide +kernel, q112, q1804, by decide⟩
theorem mvX11_setsNote : jMv yX11_setsNote := ⟨q1803, qs60⟩
theorem mtX11_addsNote : jMt yX11_addsNote cX11_addsNote 6 (some .int) 5 := ⟨by decide +kernel, q112, q1800, by decide⟩
theorem mvX11_addsNote : jMv yX11_addsNote := ⟨q1799, qs59⟩
theorem mtX11_note : jMt yX11_note cX11_note 6 (some .int) 5 := ⟨by decide +kernel, q112, q1781, by decide⟩
theorem mvX11_note : jMv yX11_note := ⟨q1779, q1780⟩
theorem mtX11_noNote : jMt yX11_noNote cX11_noNote 3 (some .boolean) 2 := ⟨by decide +kernel, q112, q1812, by decide⟩
theorem mvX11_noNote : jMv yX11_noNote := ⟨q1811, qs61⟩
theorem mtX11_ofNote : jMt yX11_ofNote cX11_ofNote 4 (some .int) 3 := ⟨by decide +kernel, q112, q1816, by decide⟩
theorem mvX11_ofNote : jMv yX11_ofNote := ⟨q1815, qs62⟩
theorem mtX11_change : jMt yX11_change cX11_change 8 (some .boolean) 6 := ⟨by decide +kernel, q112, q1808, by decide⟩
theorem mvX11_change : jMv yX11_change := ⟨q1806, q1807⟩
theorem mtX11_look : jMt yX11_look cX11_look 4 (some .int) 3 := ⟨by decide +kernel, q112, q1820, by decide⟩
theorem mvX11_look : jMv yX11_look := ⟨q1818, q1819⟩
theorem mtX11_draw : jMt yX11_draw cX11_draw 1 (some .int) 0 := ⟨by decide +kernel, q112, q2066, by decide⟩
theorem mvX11_draw : jMv yX11_draw := ⟨q2065, qs97⟩
theorem mtX11_makes : jMt yX11_makes cX11_makes 4 none 2 := ⟨by decide +kernel, q112, q1982, by decide⟩
theorem mvX11_makes : jMv yX11_makes := ⟨q1981, qs94⟩
theorem mtX11_write : jMt yX11_write cX11_write 14 (some .int) 4 := ⟨by decide +kernel, q112, q2062, by decide⟩
theorem mvX11_write : jMv yX11_write := ⟨q2060, q2061⟩
theorem mtX11_price : jMt yX11_price cX11_price 4 (some .int) 2 := ⟨by decide +kernel, q112, q1824, by decide⟩
theorem mvX11_price : jMv yX11_price := ⟨q1822, q1823⟩
theorem mtX11_length : jMt yX11_length cX11_length 2 none 1 := ⟨by decide +kernel, q112, q1828, by decide⟩
theorem mvX11_length : jMv yX11_length := ⟨q1826, q1827⟩
theorem mtX11_picture : jMt yX11_picture cX11_picture 6 (some .int) 4 := ⟨by decide +kernel, q112, q1832, by decide⟩
theorem mvX11_picture : jMv yX11_picture := ⟨q1830, q1831⟩
theorem mtX11_asksAll : jMt yX11_asksAll cX11_asksAll 2 none 0 := ⟨by decide +kernel, q112, q1894, by decide⟩
theorem mvX11_asksAll : jMv yX11_asksAll := ⟨q1893, qs74⟩
theorem mtX11_isAsked : jMt yX11_isAsked cX11_isAsked 2 (some .boolean) 1 := ⟨by decide +kernel, q112, q1910, by decide⟩
theorem mvX11_isAsked : jMv yX11_isAsked := ⟨q1909, qs78⟩
theorem mtX11_sumAt : jMt yX11_sumAt cX11_sumAt 3 (some .int) 3 := ⟨by decide +kernel, q112, q1921, by decide⟩
theorem mtX11_fitAt : jMt yX11_fitAt cX11_fitAt 3 (some .int) 3 := ⟨by decide +kernel, q112, q1924, by decide⟩
theorem mtX11_ofMove : jMt yX11_ofMove cX11_ofMove 4 (some .int) 3 := ⟨by decide +kernel, q112, q1918, by decide⟩
theorem mvX11_ofMove : jMv yX11_ofMove := ⟨q1917, qs80⟩
theorem mtX11_ofLost : jMt yX11_ofLost cX11_ofLost 4 (some .int) 3 := ⟨by decide +kernel, q112, q1928, by decide⟩
theorem mvX11_ofLost : jMv yX11_ofLost := ⟨q1927, qs81⟩
theorem mtX11_isTwice : jMt yX11_isTwice cX11_isTwice 5 (some .boolean) 2 := ⟨by decide +kernel, q112, q1936, by decide⟩
theorem mvX11_isTwice : jMv yX11_isTwice := ⟨q1935, qs83⟩
theorem mtX11_ofTwice : jMt yX11_ofTwice cX11_ofTwice 4 (some .int) 3 := ⟨by decide +kernel, q112, q1932, by decide⟩
theorem mvX11_ofTwice : jMv yX11_ofTwice := ⟨q1931, qs82⟩
theorem mtX11_sums : jMt yX11_sums cX11_sums 5 none 2 := ⟨by decide +kernel, q112, q1914, by decide⟩
theorem mvX11_sums : jMv yX11_sums := ⟨q1913, qs79⟩
theorem mtX11_prices : jMt yX11_prices cX11_prices 5 none 1 := ⟨by decide +kernel, q112, q1906, by decide⟩
theorem mvX11_prices : jMv yX11_prices := ⟨q1905, qs77⟩
theorem mtX11_valueOf : jMt yX11_valueOf cX11_valueOf 2 (some .int) 1 := ⟨by decide +kernel, q112, q1950, by decide⟩
theorem mvX11_valueOf : jMv yX11_valueOf := ⟨q1949, qs86⟩
theorem mtX11_holdsLine : jMt yX11_holdsLine cX11_holdsLine 8 (some .boolean) 1 := ⟨by decide +kernel, q112, q1958, by decide⟩
theorem mvX11_holdsLine : jMv yX11_holdsLine := ⟨q1957, qs88⟩
theorem mtX11_measured : jMt yX11_measured cX11_measured 4 (some .int) 0 := ⟨by decide +kernel, q112, q1954, by decide⟩
theorem mvX11_measured : jMv yX11_measured := ⟨q1953, qs87⟩
theorem mtX11_measures : jMt yX11_measures cX11_measures 7 none 1 := ⟨by decide +kernel, q112, q1946, by decide⟩
theorem mvX11_measures : jMv yX11_measures := ⟨q1945, qs85⟩
theorem mtX11_isBarred : jMt yX11_isBarred cX11_isBarred 5 (some .boolean) 1 := ⟨by decide +kernel, q112, q1966, by decide⟩
theorem mvX11_isBarred : jMv yX11_isBarred := ⟨q1965, qs90⟩
theorem mtX11_isLongEnough : jMt yX11_isLongEnough cX11_isLongEnough 4 (some .boolean) 1 := ⟨by decide +kernel, q112, q1970, by decide⟩
theorem mvX11_isLongEnough : jMv yX11_isLongEnough := ⟨q1969, qs91⟩
theorem mtX11_takes : jMt yX11_takes cX11_takes 4 (some .int) 2 := ⟨by decide +kernel, q112, q1974, by decide⟩
theorem mvX11_takes : jMv yX11_takes := ⟨q1973, qs92⟩
theorem mtX11_meets : jMt yX11_meets cX11_meets 3 none 2 := ⟨by decide +kernel, q112, q1962, by decide⟩
theorem mvX11_meets : jMv yX11_meets := ⟨q1961, qs89⟩
theorem mtX11_goesOn : jMt yX11_goesOn cX11_goesOn 2 (some .boolean) 1 := ⟨by decide +kernel, q112, q1978, by decide⟩
theorem mvX11_goesOn : jMv yX11_goesOn := ⟨q1977, qs93⟩
theorem mtX11_lays : jMt yX11_lays cX11_lays 3 none 2 := ⟨by decide +kernel, q112, q1941, by decide⟩
theorem mvX11_lays : jMv yX11_lays := ⟨q1940, qs84⟩
theorem mtX11_fits : jMt yX11_fits cX11_fits 9 (some .boolean) 7 := ⟨by decide +kernel, q112, q1989, by decide⟩
theorem mtX11_tries : jMt yX11_tries cX11_tries 14 none 3 := ⟨by decide +kernel, q112, q1986, by decide⟩
theorem mvX11_tries : jMv yX11_tries := ⟨q1985, qs95⟩
theorem mtX11_laysAll : jMt yX11_laysAll cX11_laysAll 6 none 1 := ⟨by decide +kernel, q112, q1902, by decide⟩
theorem mvX11_laysAll : jMv yX11_laysAll := ⟨q1901, qs76⟩
theorem mtX11_asks : jMt yX11_asks cX11_asks 2 (some .int) 0 := ⟨by decide +kernel, q112, q1898, by decide⟩
theorem mvX11_asks : jMv yX11_asks := ⟨q1897, qs75⟩
theorem mtX11_asksWhole : jMt yX11_asksWhole cX11_asksWhole 1 (some .int) 0 := ⟨by decide +kernel, q112, q1890, by decide⟩
theorem mvX11_asksWhole : jMv yX11_asksWhole := ⟨q1889, qs73⟩
theorem mtX11_least : jMt yX11_least cX11_least 1 (some .int) 0 := ⟨by decide +kernel, q112, q1886, by decide⟩
theorem mvX11_least : jMv yX11_least := ⟨q1884, q1885⟩
theorem mtX11_many : jMt yX11_many cX11_many 2 (some .int) 0 := ⟨by decide +kernel, q112, q1994, by decide⟩
theorem mvX11_many : jMv yX11_many := ⟨q1992, q1993⟩
theorem mtX11_read : jMt yX11_read cX11_read 3 (some .int) 1 := ⟨by decide +kernel, q112, q1998, by decide⟩
theorem mvX11_read : jMv yX11_read := ⟨q1996, q1997⟩
theorem mtX11_readNext : jMt yX11_readNext cX11_readNext 3 (some .int) 1 := ⟨by decide +kernel, q112, q2002, by decide⟩
theorem mvX11_readNext : jMv yX11_readNext := ⟨q2000, q2001⟩
theorem mtX11_follows : jMt yX11_follows cX11_follows 5 none 1 := ⟨by decide +kernel, q112, q2010, by decide⟩
theorem mvX11_follows : jMv yX11_follows := ⟨q2009, qs96⟩
theorem mtX11_slip : jMt yX11_slip cX11_slip 4 (some .int) 2 := ⟨by decide +kernel, q112, q2006, by decide⟩
theorem mvX11_slip : jMv yX11_slip := ⟨q2004, q2005⟩
theorem mtX11_slips : jMt yX11_slips cX11_slips 6 (some .int) 2 := ⟨by decide +kernel, q112, q2014, by decide⟩
theorem mvX11_slips : jMv yX11_slips := ⟨q2012, q2013⟩
theorem mtX11_breaks : jMt yX11_breaks cX11_breaks 3 (some .int) 1 := ⟨by decide +kernel, q112, q2018, by decide⟩
theorem mvX11_breaks : jMv yX11_breaks := ⟨q2016, q2017⟩
theorem mtX11_brief : jMt yX11_brief cX11_brief 6 (some .int) 1 := ⟨by decide +kernel, q112, q2022, by decide⟩
theorem mvX11_brief : jMv yX11_brief := ⟨q2020, q2021⟩
theorem mtX11_part : jMt yX11_part cX11_part 3 (some .int) 0 := ⟨by decide +kernel, q112, q2026, by decide⟩
theorem mvX11_part : jMv yX11_part := ⟨q2024, q2025⟩
theorem mtX11_best : jMt yX11_best cX11_best 3 (some .int) 1 := ⟨by decide +kernel, q112, q2030, by decide⟩
theorem mvX11_best : jMv yX11_best := ⟨q2028, q2029⟩
theorem mtX11_common : jMt yX11_common cX11_common 10 (some .long) 2 := ⟨by decide +kernel, q112, q2039, by decide⟩
theorem mtX11_odds : jMt yX11_odds cX11_odds 12 (some .long) 3 := ⟨by decide +kernel, q112, q2034, by decide⟩
theorem mvX11_odds : jMv yX11_odds := ⟨q2032, q2033⟩
theorem mtX11_isSlip : jMt yX11_isSlip cX11_isSlip 1 (some .boolean) 1 := ⟨by decide +kernel, q112, q2046, by decide⟩
theorem mtX11_shared : jMt yX11_shared cX11_shared 10 (some .int) 3 := ⟨by decide +kernel, q112, q2043, by decide⟩
theorem mvX11_shared : jMv yX11_shared := ⟨q2041, q2042⟩
theorem mtX11_alike : jMt yX11_alike cX11_alike 9 (some .int) 2 := ⟨by decide +kernel, q112, q2050, by decide⟩
theorem mvX11_alike : jMv yX11_alike := ⟨q2048, q2049⟩
theorem mtX11_way : jMt yX11_way cX11_way 6 (some .int) 1 := ⟨by decide +kernel, q112, q2054, by decide⟩
theorem mvX11_way : jMv yX11_way := ⟨q2052, q2053⟩
theorem mtX11_cheaper : jMt yX11_cheaper cX11_cheaper 4 (some .int) 1 := ⟨by decide +kernel, q112, q2058, by decide⟩
theorem mvX11_cheaper : jMv yX11_cheaper := ⟨q2056, q2057⟩
theorem mtX11_image : jMt yX11_image cX11_image 2 none 0 := ⟨by decide +kernel, q112, q1634, by decide⟩
theorem mvX11_image : jMv yX11_image := ⟨q1632, q1633⟩
theorem mtX11_back : jMt yX11_back cX11_back 2 (some .boolean) 0 := ⟨by decide +kernel, q112, q1638, by decide⟩
theorem mvX11_back : jMv yX11_back := ⟨q1636, q1637⟩
theorem mtX11_count : jMt yX11_count cX11_count 4 (some .int) 1 := ⟨by decide +kernel, q112, q2071, by decide⟩
theorem mvX11_count : jMv yX11_count := ⟨q2069, q2070⟩
section JW
variable {p : Program} {l : Launch} {e : Env} {R : Room} {s : State} {m : MethodId} {args : Array Value} {below : List Frame} {meth : Method} {c : Code} {Q : State → Prop} {D : jE} {S0 : State} {A0 : Array Value}
theorem wX11_init_241 (K : JK p l R s m args meth c D S0 A0 2 cX11_init "MoveNotesModel" 12) (hn : meth.name = "<init>") (bc : Nat) (bs : Nat) (this : Nat) (Qj : JP) (hret : jRetV p l e R s m args below meth c Q D S0 2 cX11_init Qj) : ∀ (n : Nat) (x1_241 : Int32), JR p l e R s m args below meth c Q D S0 2 (((((((((((((((((((((((((((bc - 1) - 1) - 1) - 1) - 1) - 1) - 1) - 1) - 1) - 1) - 1) - 1) - 1) - 1) - 1) - 1) - 1) - 1) - 1) - 1) - 1) - 1) - 1) - 1) - 1) - 1) - 1) (((((((((((((((((((((((((((bs - (nI 2125).toNatClampNeg) - (nI 1284).toNatClampNeg) - (nI 400).toNatClampNeg) - (nI 5).toNatClampNeg) - (nI 12).toNatClampNeg) - (nI 6).toNatClampNeg) - (nI 400).toNatClampNeg) - (nI 1116).toNatClampNeg) - (nI 40176).toNatClampNeg) - (nI 3).toNatClampNeg) - (nI 8).toNatClampNeg) - (nI 31).toNatClampNeg) - (nI 2232).toNatClampNeg) - (nI 2232).toNatClampNeg) - (nI 2325).toNatClampNeg) - (nI 31).toNatClampNeg) - (nI 24).toNatClampNeg) - (nI 24).toNatClampNeg) - (nI 30).toNatClampNeg) - (nI 30).toNatClampNeg) - (nI 30).toNatClampNeg) - (nI 31).toNatClampNeg) - (nI 24).toNatClampNeg) - (nI 30).toNatClampNeg) - (nI 24).toNatClampNeg) - (nI 30).toNatClampNeg) - (nI 625).toNatClampNeg) (jit (FX11_init_241 this Qj) (fun _ => jbot) n x1_241) 241 [some (.ref this), some (.int x1_241)] [] := by
  intro n
  induction n with
  | zero =>
    intro x1_241
    exact JR.bot
  | succ n ih241 =>
    intro x1_241
    show JR p l e R s m args below meth c Q D S0 2 (((((((((((((((((((((((((((bc - 1) - 1) - 1) - 1) - 1) - 1) - 1) - 1) - 1) - 1) - 1) - 1) - 1) - 1) - 1) - 1) - 1) - 1) - 1) - 1) - 1) - 1) - 1) - 1) - 1) - 1) - 1) (((((((((((((((((((((((((((bs - (nI 2125).toNatClampNeg) - (nI 1284).toNatClampNeg) - (nI 400).toNatClampNeg) - (nI 5).toNatClampNeg) - (nI 12).toNatClampNeg) - (nI 6).toNatClampNeg) - (nI 400).toNatClampNeg) - (nI 1116).toNatClampNeg) - (nI 40176).toNatClampNeg) - (nI 3).toNatClampNeg) - (nI 8).toNatClampNeg) - (nI 31).toNatClampNeg) - (nI 2232).toNatClampNeg) - (nI 2232).toNatClampNeg) - (nI 2325).toNatClampNeg) - (nI 31).toNatClampNeg) - (nI 24).toNatClampNeg) - (nI 24).toNatClampNeg) - (nI 30).toNatClampNeg) - (nI 30).toNatClampNeg) - (nI 30).toNatClampNeg) - (nI 31).toNatClampNeg) - (nI 24).toNatClampNeg) - (nI 30).toNatClampNeg) - (nI 24).toNatClampNeg) - (nI 30).toNatClampNeg) - (nI 625).toNatClampNeg) (FX11_init_241 this Qj (jit (FX11_init_241 this Qj) (fun _ => jbot) n) x1_241) 241 [some (.ref this), some (.int x1_241)] []
    generalize jit (FX11_init_241 this Qj) (fun _ => jbot) n = rec241 at ih241 ⊢
    unfold FX11_init_241
    refine jr_iload_n K dX11_init_241 rfl ?_
    refine jr_bipush K dX11_init_242 (v := (nI 36)) (by decide) ?_
    refine jr_icmp_ge K (tgt := 263) dX11_init_244 (by decide) ?_ ?_
    · exact hret _ _ _ _ dX11_init_263
    · refine jr_aload_n K dX11_init_247 rfl ?_
      refine jr_getA K gf_X11_13 dX11_init_248 (fun v248 => ?_)
      refine jr_bipush K dX11_init_251 (v := (nI 13)) (by decide) ?_
      refine jr_iload_n K dX11_init_253 rfl ?_
      refine jr_iadd K dX11_init_254 ?_
      refine jr_iconst K dX11_init_255 (v := (-1)) (by decide) ?_
      refine jr_iast K dX11_init_256 ?_
      refine jr_iinc K (v := (x1_241 + (nI 1))) (L' := [some (.ref this), some (.int (x1_241 + (nI 1)))]) dX11_init_257 rfl rfl (by decide) rfl rfl ?_
      refine jr_goto K (tgt := 241) dX11_init_260 (by decide) ?_
      exact jr_weak (ih241 (x1_241 + (nI 1))) ⟨rfl, rfl, trivial⟩
theorem wX11_init (K : JK p l R s m args meth c D S0 A0 2 cX11_init "MoveNotesModel" 12) (hn : meth.name = "<init>") (bc : Nat) (bs : Nat) (this : Nat) (Qj : JP) (hret : jRetV p l e R s m args below meth c Q D S0 2 cX11_init Qj) : JR p l e R s m args below meth c Q D S0 2 bc bs (JX11_init bc bs this Qj) 0 [some (.ref this), none] [] := by
  unfold JX11_init
  refine jr_aload_n K dX11_init_0 rfl ?_
  refine jr_objInit K q1472 dX11_init_1 (by decide) (Nat.le_of_ble_eq_true rfl) ?_
  refine jr_aload_n K dX11_init_4 rfl ?_
  refine jr_sipush K dX11_init_5 (v := (nI 2125)) (by decide) ?_
  refine jr_newI K dX11_init_8 (fun v8 => ?_)
  refine jr_put K (pf_X11_13 hn) dX11_init_10 rfl rfl ?_
  refine jr_aload_n K dX11_init_13 rfl ?_
  refine jr_sipush K dX11_init_14 (v := (nI 1284)) (by decide) ?_
  refine jr_newI K dX11_init_17 (fun v17 => ?_)
  refine jr_put K (pf_X11_17 hn) dX11_init_19 rfl rfl ?_
  refine jr_aload_n K dX11_init_22 rfl ?_
  refine jr_sipush K dX11_init_23 (v := (nI 400)) (by decide) ?_
  refine jr_newB K dX11_init_26 (fun v26 => ?_)
  refine jr_put K (pf_X11_20 hn) dX11_init_28 rfl rfl ?_
  refine jr_aload_n K dX11_init_31 rfl ?_
  refine jr_iconst K dX11_init_32 (v := (-1)) (by decide) ?_
  refine jr_put K pf_X11_24 dX11_init_33 rfl rfl ?_
  refine jr_aload_n K dX11_init_36 rfl ?_
  refine jr_iconst K dX11_init_37 (v := (nI 5)) (by decide) ?_
  refine jr_newI K dX11_init_38 (fun v38 => ?_)
  refine jr_put K (pf_X11_27 hn) dX11_init_40 rfl rfl ?_
  refine jr_aload_n K dX11_init_43 rfl ?_
  refine jr_bipush K dX11_init_44 (v := (nI 12)) (by decide) ?_
  refine jr_newI K dX11_init_46 (fun v46 => ?_)
  refine jr_put K (pf_X11_30 hn) dX11_init_48 rfl rfl ?_
  refine jr_aload_n K dX11_init_51 rfl ?_
  refine jr_bipush K dX11_init_52 (v := (nI 6)) (by decide) ?_
  refine jr_newI K dX11_init_54 (fun v54 => ?_)
  refine jr_put K (pf_X11_33 hn) dX11_init_56 rfl rfl ?_
  refine jr_aload_n K dX11_init_59 rfl ?_
  refine jr_sipush K dX11_init_60 (v := (nI 400)) (by decide) ?_
  refine jr_newI K dX11_init_63 (fun v63 => ?_)
  refine jr_put K (pf_X11_36 hn) dX11_init_65 rfl rfl ?_
  refine jr_aload_n K dX11_init_68 rfl ?_
  refine jr_sipush K dX11_init_69 (v := (nI 1116)) (by decide) ?_
  refine jr_newI K dX11_init_72 (fun v72 => ?_)
  refine jr_put K (pf_X11_39 hn) dX11_init_74 rfl rfl ?_
  refine jr_aload_n K dX11_init_77 rfl ?_
  refine jr_ldc K (v := (nI 40176)) q1473 (by decide) dX11_init_78 ?_
  refine jr_newZ K dX11_init_80 (fun v80 => ?_)
  refine jr_put K (pf_X11_43 hn) dX11_init_82 rfl rfl ?_
  refine jr_aload_n K dX11_init_85 rfl ?_
  refine jr_iconst K dX11_init_86 (v := (nI 3)) (by decide) ?_
  refine jr_newI K dX11_init_87 (fun v87 => ?_)
  refine jr_put K (pf_X11_47 hn) dX11_init_89 rfl rfl ?_
  refine jr_aload_n K dX11_init_92 rfl ?_
  refine jr_bipush K dX11_init_93 (v := (nI 8)) (by decide) ?_
  refine jr_newI K dX11_init_95 (fun v95 => ?_)
  refine jr_put K (pf_X11_50 hn) dX11_init_97 rfl rfl ?_
  refine jr_aload_n K dX11_init_100 rfl ?_
  refine jr_bipush K dX11_init_101 (v := (nI 31)) (by decide) ?_
  refine jr_newI K dX11_init_103 (fun v103 => ?_)
  refine jr_put K (pf_X11_53 hn) dX11_init_105 rfl rfl ?_
  refine jr_aload_n K dX11_init_108 rfl ?_
  refine jr_sipush K dX11_init_109 (v := (nI 2232)) (by decide) ?_
  refine jr_newI K dX11_init_112 (fun v112 => ?_)
  refine jr_put K (pf_X11_56 hn) dX11_init_114 rfl rfl ?_
  refine jr_aload_n K dX11_init_117 rfl ?_
  refine jr_sipush K dX11_init_118 (v := (nI 2232)) (by decide) ?_
  refine jr_newI K dX11_init_121 (fun v121 => ?_)
  refine jr_put K (pf_X11_59 hn) dX11_init_123 rfl rfl ?_
  refine jr_aload_n K dX11_init_126 rfl ?_
  refine jr_sipush K dX11_init_127 (v := (nI 2325)) (by decide) ?_
  refine jr_newI K dX11_init_130 (fun v130 => ?_)
  refine jr_put K (pf_X11_62 hn) dX11_init_132 rfl rfl ?_
  refine jr_aload_n K dX11_init_135 rfl ?_
  refine jr_bipush K dX11_init_136 (v := (nI 31)) (by decide) ?_
  refine jr_newI K dX11_init_138 (fun v138 => ?_)
  refine jr_put K (pf_X11_65 hn) dX11_init_140 rfl rfl ?_
  refine jr_aload_n K dX11_init_143 rfl ?_
  refine jr_bipush K dX11_init_144 (v := (nI 24)) (by decide) ?_
  refine jr_newL K dX11_init_146 (fun v146 => ?_)
  refine jr_put K (pf_X11_68 hn) dX11_init_148 rfl rfl ?_
  refine jr_aload_n K dX11_init_151 rfl ?_
  refine jr_bipush K dX11_init_152 (v := (nI 24)) (by decide) ?_
  refine jr_newL K dX11_init_154 (fun v154 => ?_)
  refine jr_put K (pf_X11_72 hn) dX11_init_156 rfl rfl ?_
  refine jr_aload_n K dX11_init_159 rfl ?_
  refine jr_bipush K dX11_init_160 (v := (nI 30)) (by decide) ?_
  refine jr_newI K dX11_init_162 (fun v162 => ?_)
  refine jr_put K (pf_X11_75 hn) dX11_init_164 rfl rfl ?_
  refine jr_aload_n K dX11_init_167 rfl ?_
  refine jr_bipush K dX11_init_168 (v := (nI 30)) (by decide) ?_
  refine jr_newI K dX11_init_170 (fun v170 => ?_)
  refine jr_put K (pf_X11_78 hn) dX11_init_172 rfl rfl ?_
  refine jr_aload_n K dX11_init_175 rfl ?_
  refine jr_bipush K dX11_init_176 (v := (nI 30)) (by decide) ?_
  refine jr_newI K dX11_init_178 (fun v178 => ?_)
  refine jr_put K (pf_X11_81 hn) dX11_init_180 rfl rfl ?_
  refine jr_aload_n K dX11_init_183 rfl ?_
  refine jr_bipush K dX11_init_184 (v := (nI 31)) (by decide) ?_
  refine jr_newI K dX11_init_186 (fun v186 => ?_)
  refine jr_put K (pf_X11_84 hn) dX11_init_188 rfl rfl ?_
  refine jr_aload_n K dX11_init_191 rfl ?_
  refine jr_bipush K dX11_init_192 (v := (nI 24)) (by decide) ?_
  refine jr_newI K dX11_init_194 (fun v194 => ?_)
  refine jr_put K (pf_X11_87 hn) dX11_init_196 rfl rfl ?_
  refine jr_aload_n K dX11_init_199 rfl ?_
  refine jr_bipush K dX11_init_200 (v := (nI 30)) (by decide) ?_
  refine jr_newI K dX11_init_202 (fun v202 => ?_)
  refine jr_put K (pf_X11_90 hn) dX11_init_204 rfl rfl ?_
  refine jr_aload_n K dX11_init_207 rfl ?_
  refine jr_bipush K dX11_init_208 (v := (nI 24)) (by decide) ?_
  refine jr_newI K dX11_init_210 (fun v210 => ?_)
  refine jr_put K (pf_X11_93 hn) dX11_init_212 rfl rfl ?_
  refine jr_aload_n K dX11_init_215 rfl ?_
  refine jr_bipush K dX11_init_216 (v := (nI 30)) (by decide) ?_
  refine jr_newI K dX11_init_218 (fun v218 => ?_)
  refine jr_put K (pf_X11_96 hn) dX11_init_220 rfl rfl ?_
  refine jr_aload_n K dX11_init_223 rfl ?_
  refine jr_sipush K dX11_init_224 (v := (nI 625)) (by decide) ?_
  refine jr_newI K dX11_init_227 (fun v227 => ?_)
  refine jr_put K (pf_X11_99 hn) dX11_init_229 rfl rfl ?_
  refine jr_aload_n K dX11_init_232 rfl ?_
  refine jr_getA K gf_X11_13 dX11_init_233 (fun v233 => ?_)
  refine jr_iconst K dX11_init_236 (v := (nI 3)) (by decide) ?_
  refine jr_iconst K dX11_init_237 (v := (-1)) (by decide) ?_
  refine jr_iast K dX11_init_238 ?_
  refine jr_iconst K dX11_init_239 (v := (nI 0)) (by decide) ?_
  refine jr_istore_n K (L' := [some (.ref this), some (.int (nI 0))]) dX11_init_240 (by decide) rfl rfl ?_
  refine jr_ex (fun n241 => ?_)
  refine jr_weak (wX11_init_241 K hn bc bs this Qj hret n241 (nI 0)) ⟨rfl, rfl, trivial⟩
theorem metX11_init (hG : jG l D S0 A0) (bc : Nat) (bs : Nat) (this : Nat) (Qj : JP) : Met l yX11_init (ws_ yX11_init cX11_init 2 none) (jrm 12 bc bs) (va_Pc [.ref this] (jB D S0 (JX11_init bc bs this Qj))) (va_Qv Qj (fun σ t => jRep D S0.heap.size σ t.heap) (jA S0)) bc bs (jA S0) :=
  jr_start hG (by decide) (Nat.le_of_ble_eq_true rfl) rfl fun p e s m below meth c K hr hn => wX11_init K hn bc bs this Qj (fun _ _ _ _ d => jr_vret K hr d)
theorem wX11_feed_60 (K : JK p l R s m args meth c D S0 A0 7 cX11_feed "MoveNotesModel" 12) (bc bs : Nat) (this : Nat) (k106 : JP) (hk106 : JR p l e R s m args below meth c Q D S0 7 bc bs k106 106 [some (.ref this), none, none, none, none, none, none] []) : ∀ (n : Nat) (x6_60 : Int32), JR p l e R s m args below meth c Q D S0 7 bc bs (jit (FX11_feed_60 this k106) (fun _ => jbot) n x6_60) 60 [some (.ref this), none, none, none, none, none, some (.int x6_60)] [] := by
  intro n
  induction n with
  | zero =>
    intro x6_60
    exact JR.bot
  | succ n ih60 =>
    intro x6_60
    show JR p l e R s m args below meth c Q D S0 7 bc bs (FX11_feed_60 this k106 (jit (FX11_feed_60 this k106) (fun _ => jbot) n) x6_60) 60 [some (.ref this), none, none, none, none, none, some (.int x6_60)] []
    generalize jit (FX11_feed_60 this k106) (fun _ => jbot) n = rec60 at ih60 ⊢
    unfold FX11_feed_60
    refine jr_iload K dX11_feed_60 rfl ?_
    refine jr_bipush K dX11_feed_62 (v := (nI 20)) (by decide) ?_
    refine jr_icmp_ge K (tgt := 106) dX11_feed_64 (by decide) ?_ ?_
    · exact jr_weak (hk106) ⟨rfl, trivial⟩
    · refine jr_aload_n K dX11_feed_67 rfl ?_
      refine jr_getA K gf_X11_20 dX11_feed_68 (fun v68 => ?_)
      refine jr_aload_n K dX11_feed_71 rfl ?_
      refine jr_getI K gf_X11_118 dX11_feed_72 (fun v72 => ?_)
      refine jr_iload K dX11_feed_75 rfl ?_
      refine jr_iadd K dX11_feed_77 ?_
      refine jr_aload_n K dX11_feed_78 rfl ?_
      refine jr_getA K gf_X11_27 dX11_feed_79 (fun v79 => ?_)
      refine jr_iload K dX11_feed_82 rfl ?_
      refine jr_iconst K dX11_feed_84 (v := (nI 4)) (by decide) ?_
      refine jr_idiv K dX11_feed_85 (by decide) ?_
      refine jr_iald K dX11_feed_86 (fun v86 => ?_)
      refine jr_bipush K dX11_feed_87 (v := (nI 24)) (by decide) ?_
      refine jr_bipush K dX11_feed_89 (v := (nI 8)) (by decide) ?_
      refine jr_iload K dX11_feed_91 rfl ?_
      refine jr_iconst K dX11_feed_93 (v := (nI 4)) (by decide) ?_
      refine jr_irem K dX11_feed_94 (by decide) ?_
      refine jr_imul K dX11_feed_95 ?_
      refine jr_isub K dX11_feed_96 ?_
      refine jr_ishr K dX11_feed_97 ?_
      refine jr_i2b K dX11_feed_98 ?_
      refine jr_bast K dX11_feed_99 ?_
      refine jr_iinc K (v := (x6_60 + (nI 1))) (L' := [some (.ref this), none, none, none, none, none, some (.int (x6_60 + (nI 1)))]) dX11_feed_100 rfl rfl (by decide) rfl rfl ?_
      refine jr_goto K (tgt := 60) dX11_feed_103 (by decide) ?_
      exact jr_weak (ih60 (x6_60 + (nI 1))) ⟨rfl, rfl, trivial⟩
theorem wX11_feed (K : JK p l R s m args meth c D S0 A0 7 cX11_feed "MoveNotesModel" 12) (bc bs : Nat) (this : Nat) (p1 : Int32) (p2 : Int32) (p3 : Int32) (p4 : Int32) (p5 : Int32) (Qj : Int32 → JP) (hret : jRetI p l e R s m args below meth c Q D S0 7 cX11_feed Qj) : JR p l e R s m args below meth c Q D S0 7 bc bs (JX11_feed this p1 p2 p3 p4 p5 Qj) 0 [some (.ref this), some (.int p1), some (.int p2), some (.int p3), some (.int p4), some (.int p5), none] [] := by
  unfold JX11_feed
  refine jr_aload_n K dX11_feed_0 rfl ?_
  refine jr_iconst K dX11_feed_1 (v := (nI 0)) (by decide) ?_
  refine jr_put K pf_X11_3 dX11_feed_2 rfl rfl ?_
  refine jr_aload_n K dX11_feed_5 rfl ?_
  refine jr_getI K gf_X11_118 dX11_feed_6 (fun v6 => ?_)
  refine jr_bipush K dX11_feed_9 (v := (nI 20)) (by decide) ?_
  refine jr_iadd K dX11_feed_11 ?_
  refine jr_sipush K dX11_feed_12 (v := (nI 400)) (by decide) ?_
  refine jr_icmp_le K (tgt := 20) dX11_feed_15 (by decide) ?_ ?_
  · refine jr_aload_n K dX11_feed_20 rfl ?_
    refine jr_getA K gf_X11_27 dX11_feed_21 (fun v21 => ?_)
    refine jr_iconst K dX11_feed_24 (v := (nI 0)) (by decide) ?_
    refine jr_iload_n K dX11_feed_25 rfl ?_
    refine jr_iast K dX11_feed_26 ?_
    refine jr_aload_n K dX11_feed_27 rfl ?_
    refine jr_getA K gf_X11_27 dX11_feed_28 (fun v28 => ?_)
    refine jr_iconst K dX11_feed_31 (v := (nI 1)) (by decide) ?_
    refine jr_iload_n K dX11_feed_32 rfl ?_
    refine jr_iast K dX11_feed_33 ?_
    refine jr_aload_n K dX11_feed_34 rfl ?_
    refine jr_getA K gf_X11_27 dX11_feed_35 (fun v35 => ?_)
    refine jr_iconst K dX11_feed_38 (v := (nI 2)) (by decide) ?_
    refine jr_iload_n K dX11_feed_39 rfl ?_
    refine jr_iast K dX11_feed_40 ?_
    refine jr_aload_n K dX11_feed_41 rfl ?_
    refine jr_getA K gf_X11_27 dX11_feed_42 (fun v42 => ?_)
    refine jr_iconst K dX11_feed_45 (v := (nI 3)) (by decide) ?_
    refine jr_iload K dX11_feed_46 rfl ?_
    refine jr_iast K dX11_feed_48 ?_
    refine jr_aload_n K dX11_feed_49 rfl ?_
    refine jr_getA K gf_X11_27 dX11_feed_50 (fun v50 => ?_)
    refine jr_iconst K dX11_feed_53 (v := (nI 4)) (by decide) ?_
    refine jr_iload K dX11_feed_54 rfl ?_
    refine jr_iast K dX11_feed_56 ?_
    refine jr_iconst K dX11_feed_57 (v := (nI 0)) (by decide) ?_
    refine jr_istore K (L' := [some (.ref this), some (.int p1), some (.int p2), some (.int p3), some (.int p4), some (.int p5), some (.int (nI 0))]) dX11_feed_58 (by decide) rfl rfl ?_
    refine jr_ex (fun n60 => ?_)
    refine jr_weak (wX11_feed_60 K bc bs this _ ?_ n60 (nI 0)) ⟨rfl, rfl, trivial⟩
    · refine jr_aload_n K dX11_feed_106 rfl ?_
      refine jr_dup K dX11_feed_107 rfl ?_
      refine jr_getI K gf_X11_118 dX11_feed_108 (fun v108 => ?_)
      refine jr_bipush K dX11_feed_111 (v := (nI 20)) (by decide) ?_
      refine jr_iadd K dX11_feed_113 ?_
      refine jr_put K pf_X11_118 dX11_feed_114 rfl rfl ?_
      refine jr_aload_n K dX11_feed_117 rfl ?_
      refine jr_getI K gf_X11_118 dX11_feed_118 (fun v118 => ?_)
      exact hret _ _ _ _ _ dX11_feed_121
  · refine jr_iconst K dX11_feed_18 (v := (-1)) (by decide) ?_
    exact hret _ _ _ _ _ dX11_feed_19
theorem metX11_feed (hG : jG l D S0 A0) (this : Nat) (p1 : Int32) (p2 : Int32) (p3 : Int32) (p4 : Int32) (p5 : Int32) (Qj : Int32 → JP) : Met l yX11_feed (ws_ yX11_feed cX11_feed 7 (some .int)) (jrm 12 0 0) (va_Pc [.ref this, .int p1, .int p2, .int p3, .int p4, .int p5] (jB D S0 (JX11_feed this p1 p2 p3 p4 p5 Qj))) (va_Qi Qj (fun σ t => jRep D S0.heap.size σ t.heap) (jA S0)) 0 0 (jA S0) :=
  jr_start hG (by decide) (Nat.le_of_ble_eq_true rfl) rfl fun p e s m below meth c K hr hn => wX11_feed K _ _ this p1 p2 p3 p4 p5 Qj (fun _ _ _ _ _ d => jr_iret K hr rfl d)
theorem wX11_end (K : JK p l R s m args meth c D S0 A0 2 cX11_end "MoveNotesModel" 12) (bc bs : Nat) (this : Nat) (p1 : Int32) (Qj : Int32 → JP) (hret : jRetZ p l e R s m args below meth c Q D S0 2 cX11_end Qj) : JR p l e R s m args below meth c Q D S0 2 bc bs (JX11_end this p1 Qj) 0 [some (.ref this), some (.int p1)] [] := by
  unfold JX11_end
  refine jr_aload_n K dX11_end_0 rfl ?_
  refine jr_iconst K dX11_end_1 (v := (nI 0)) (by decide) ?_
  refine jr_put K pf_X11_3 dX11_end_2 rfl rfl ?_
  refine jr_iload_n K dX11_end_5 rfl ?_
  refine jr_if_lt K (tgt := 17) dX11_end_6 (by decide) ?_ ?_
  · refine jr_iconst K dX11_end_17 (v := (nI 0)) (by decide) ?_
    exact JR.imp (fun _ h => ⟨Or.inl rfl, h⟩) (hret _ _ _ _ _ dX11_end_18)
  · refine jr_iload_n K dX11_end_9 rfl ?_
    refine jr_aload_n K dX11_end_10 rfl ?_
    refine jr_getI K gf_X11_118 dX11_end_11 (fun v11 => ?_)
    refine jr_icmp_le K (tgt := 19) dX11_end_14 (by decide) ?_ ?_
    · refine jr_aload_n K dX11_end_19 rfl ?_
      refine jr_iload_n K dX11_end_20 rfl ?_
      refine jr_put K pf_X11_118 dX11_end_21 rfl rfl ?_
      refine jr_iconst K dX11_end_24 (v := (nI 1)) (by decide) ?_
      exact JR.imp (fun _ h => ⟨Or.inr rfl, h⟩) (hret _ _ _ _ _ dX11_end_25)
    · refine jr_iconst K dX11_end_17 (v := (nI 0)) (by decide) ?_
      exact JR.imp (fun _ h => ⟨Or.inl rfl, h⟩) (hret _ _ _ _ _ dX11_end_18)
theorem metX11_end (hG : jG l D S0 A0) (this : Nat) (p1 : Int32) (Qj : Int32 → JP) : Met l yX11_end (ws_ yX11_end cX11_end 2 (some .boolean)) (jrm 12 0 0) (va_Pc [.ref this, .int p1] (jB D S0 (JX11_end this p1 Qj))) (va_Qi Qj (fun σ t => jRep D S0.heap.size σ t.heap) (jA S0)) 0 0 (jA S0) :=
  jr_start hG (by decide) (Nat.le_of_ble_eq_true rfl) rfl fun p e s m below meth c K hr hn => wX11_end K _ _ this p1 Qj (fun _ _ _ _ _ d => jr_zret K hr d)
theorem wX11_isAt (K : JK p l R s m args meth c D S0 A0 3 cX11_isAt "MoveNotesModel" 12) (bc bs : Nat) (this : Nat) (p1 : Int32) (p2 : Int32) (Qj : Int32 → JP) (hret : jRetZ p l e R s m args below meth c Q D S0 3 cX11_isAt Qj) : JR p l e R s m args below meth c Q D S0 3 bc bs (JX11_isAt this p1 p2 Qj) 0 [some (.ref this), some (.int p1), some (.int p2)] [] := by
  unfold JX11_isAt
  refine jr_aload_n K dX11_isAt_0 rfl ?_
  refine jr_getI K gf_X11_121 dX11_isAt_1 (fun v1 => ?_)
  refine jr_aload_n K dX11_isAt_4 rfl ?_
  refine jr_getI K gf_X11_124 dX11_isAt_5 (fun v5 => ?_)
  refine jr_join (fun (k41 : JP) => JR p l e R s m args below meth c Q D S0 3 bc bs k41 41 [none, none, none] []) ?_ (fun k41 hk41 => ?_)
  · refine jr_iconst K dX11_isAt_41 (v := (nI 0)) (by decide) ?_
    exact JR.imp (fun _ h => ⟨Or.inl rfl, h⟩) (hret _ _ _ _ _ dX11_isAt_42)
  refine jr_icmp_ge K (tgt := 41) dX11_isAt_8 (by decide) ?_ ?_
  · exact jr_weak (hk41) trivial
  · refine jr_aload_n K dX11_isAt_11 rfl ?_
    refine jr_getA K gf_X11_20 dX11_isAt_12 (fun v12 => ?_)
    refine jr_aload_n K dX11_isAt_15 rfl ?_
    refine jr_getI K gf_X11_121 dX11_isAt_16 (fun v16 => ?_)
    refine jr_bald K dX11_isAt_19 (fun v19 => ?_)
    refine jr_iload_n K dX11_isAt_20 rfl ?_
    refine jr_icmp_lt K (tgt := 41) dX11_isAt_21 (by decide) ?_ ?_
    · exact jr_weak (hk41) trivial
    · refine jr_aload_n K dX11_isAt_24 rfl ?_
      refine jr_getA K gf_X11_20 dX11_isAt_25 (fun v25 => ?_)
      refine jr_aload_n K dX11_isAt_28 rfl ?_
      refine jr_getI K gf_X11_121 dX11_isAt_29 (fun v29 => ?_)
      refine jr_bald K dX11_isAt_32 (fun v32 => ?_)
      refine jr_iload_n K dX11_isAt_33 rfl ?_
      refine jr_icmp_gt K (tgt := 41) dX11_isAt_34 (by decide) ?_ ?_
      · exact jr_weak (hk41) trivial
      · refine jr_iconst K dX11_isAt_37 (v := (nI 1)) (by decide) ?_
        refine jr_goto K (tgt := 42) dX11_isAt_38 (by decide) ?_
        exact JR.imp (fun _ h => ⟨Or.inr rfl, h⟩) (hret _ _ _ _ _ dX11_isAt_42)
theorem metX11_isAt (hG : jG l D S0 A0) (this : Nat) (p1 : Int32) (p2 : Int32) (Qj : Int32 → JP) : Met l yX11_isAt (ws_ yX11_isAt cX11_isAt 3 (some .boolean)) (jrm 12 0 0) (va_Pc [.ref this, .int p1, .int p2] (jB D S0 (JX11_isAt this p1 p2 Qj))) (va_Qi Qj (fun σ t => jRep D S0.heap.size σ t.heap) (jA S0)) 0 0 (jA S0) :=
  jr_start hG (by decide) (Nat.le_of_ble_eq_true rfl) rfl fun p e s m below meth c K hr hn => wX11_isAt K _ _ this p1 p2 Qj (fun _ _ _ _ _ d => jr_zret K hr d)
theorem wX11_blanks_0 (K : JK p l R s m args meth c D S0 A0 1 cX11_blanks "MoveNotesModel" 13) (bc bs : Nat) (this : Nat) (k24 : JP) (hk24 : JR p l e R s m args below meth c Q D S0 1 bc bs k24 24 [some (.ref this)] []) : ∀ (n : Nat), JR p l e R s m args below meth c Q D S0 1 bc bs (jit (FX11_blanks_0 this k24) jbot n) 0 [some (.ref this)] [] := by
  intro n
  induction n with
  | zero =>
    exact JR.bot
  | succ n ih0 =>
    show JR p l e R s m args below meth c Q D S0 1 bc bs (FX11_blanks_0 this k24 (jit (FX11_blanks_0 this k24) jbot n)) 0 [some (.ref this)] []
    generalize jit (FX11_blanks_0 this k24) jbot n = rec0 at ih0 ⊢
    unfold FX11_blanks_0
    refine jr_aload_n K dX11_blanks_0 rfl ?_
    refine jr_bipush K dX11_blanks_1 (v := (nI 32)) (by decide) ?_
    refine jr_bipush K dX11_blanks_3 (v := (nI 32)) (by decide) ?_
    refine jr_calli0 (jrun_V (As := [.int (nI 32), .int (nI 32)]) (st := []) (ci := 11) K (metX11_isAt K.hG this (nI 32) (nI 32) _) mtX11_isAt mvX11_isAt q1663 rfl rfl rfl (Nat.le_of_ble_eq_true rfl) (by decide) ⟨Nat.zero_le _, Nat.zero_le _⟩ dX11_blanks_5) (fun v5 => ?_)
    refine jr_if_eq K (tgt := 24) dX11_blanks_8 (by decide) ?_ ?_
    · exact jr_weak (hk24) ⟨rfl, trivial⟩
    · refine jr_aload_n K dX11_blanks_11 rfl ?_
      refine jr_dup K dX11_blanks_12 rfl ?_
      refine jr_getI K gf_X11_121 dX11_blanks_13 (fun v13 => ?_)
      refine jr_iconst K dX11_blanks_16 (v := (nI 1)) (by decide) ?_
      refine jr_iadd K dX11_blanks_17 ?_
      refine jr_put K pf_X11_121 dX11_blanks_18 rfl rfl ?_
      refine jr_goto K (tgt := 0) dX11_blanks_21 (by decide) ?_
      exact jr_weak (ih0) ⟨rfl, trivial⟩
theorem wX11_blanks (K : JK p l R s m args meth c D S0 A0 1 cX11_blanks "MoveNotesModel" 13) (bc bs : Nat) (this : Nat) (Qj : JP) (hret : jRetV p l e R s m args below meth c Q D S0 1 cX11_blanks Qj) : JR p l e R s m args below meth c Q D S0 1 bc bs (JX11_blanks this Qj) 0 [some (.ref this)] [] := by
  unfold JX11_blanks
  refine jr_ex (fun n0 => ?_)
  refine jr_weak (wX11_blanks_0 K bc bs this _ ?_ n0) ⟨rfl, trivial⟩
  · refine jr_aload_n K dX11_blanks_24 rfl ?_
    refine jr_aload_n K dX11_blanks_25 rfl ?_
    refine jr_getI K gf_X11_121 dX11_blanks_26 (fun v26 => ?_)
    refine jr_put K pf_X11_130 dX11_blanks_29 rfl rfl ?_
    exact hret _ _ _ _ dX11_blanks_32
theorem metX11_blanks (hG : jG l D S0 A0) (this : Nat) (Qj : JP) : Met l yX11_blanks (ws_ yX11_blanks cX11_blanks 1 none) (jrm 13 0 0) (va_Pc [.ref this] (jB D S0 (JX11_blanks this Qj))) (va_Qv Qj (fun σ t => jRep D S0.heap.size σ t.heap) (jA S0)) 0 0 (jA S0) :=
  jr_start hG (by decide) (Nat.le_of_ble_eq_true rfl) rfl fun p e s m below meth c K hr hn => wX11_blanks K _ _ this Qj (fun _ _ _ _ d => jr_vret K hr d)
theorem wX11_letters_4 (K : JK p l R s m args meth c D S0 A0 1 cX11_letters "MoveNotesModel" 14) (bc bs : Nat) (this : Nat) (Qj : JP) (hret : jRetV p l e R s m args below meth c Q D S0 1 cX11_letters Qj) : ∀ (n : Nat), JR p l e R s m args below meth c Q D S0 1 bc bs (jit (FX11_letters_4 this Qj) jbot n) 4 [some (.ref this)] [] := by
  intro n
  induction n with
  | zero =>
    exact JR.bot
  | succ n ih4 =>
    show JR p l e R s m args below meth c Q D S0 1 bc bs (FX11_letters_4 this Qj (jit (FX11_letters_4 this Qj) jbot n)) 4 [some (.ref this)] []
    generalize jit (FX11_letters_4 this Qj) jbot n = rec4 at ih4 ⊢
    unfold FX11_letters_4
    refine jr_aload_n K dX11_letters_4 rfl ?_
    refine jr_bipush K dX11_letters_5 (v := (nI 97)) (by decide) ?_
    refine jr_bipush K dX11_letters_7 (v := (nI 122)) (by decide) ?_
    refine jr_calli0 (jrun_V (As := [.int (nI 97), .int (nI 122)]) (st := []) (ci := 11) K (metX11_isAt K.hG this (nI 97) (nI 122) _) mtX11_isAt mvX11_isAt q1663 rfl rfl rfl (Nat.le_of_ble_eq_true rfl) (by decide) ⟨Nat.zero_le _, Nat.zero_le _⟩ dX11_letters_9) (fun v9 => ?_)
    refine jr_if_eq K (tgt := 28) dX11_letters_12 (by decide) ?_ ?_
    · exact hret _ _ _ _ dX11_letters_28
    · refine jr_aload_n K dX11_letters_15 rfl ?_
      refine jr_dup K dX11_letters_16 rfl ?_
      refine jr_getI K gf_X11_121 dX11_letters_17 (fun v17 => ?_)
      refine jr_iconst K dX11_letters_20 (v := (nI 1)) (by decide) ?_
      refine jr_iadd K dX11_letters_21 ?_
      refine jr_put K pf_X11_121 dX11_letters_22 rfl rfl ?_
      refine jr_goto K (tgt := 4) dX11_letters_25 (by decide) ?_
      exact jr_weak (ih4) ⟨rfl, trivial⟩
theorem wX11_letters (K : JK p l R s m args meth c D S0 A0 1 cX11_letters "MoveNotesModel" 14) (bc bs : Nat) (this : Nat) (Qj : JP) (hret : jRetV p l e R s m args below meth c Q D S0 1 cX11_letters Qj) : JR p l e R s m args below meth c Q D S0 1 bc bs (JX11_letters this Qj) 0 [some (.ref this)] [] := by
  unfold JX11_letters
  refine jr_aload_n K dX11_letters_0 rfl ?_
  refine jr_callv0 (jrun_V (As := []) (st := []) (ci := 11) K (metX11_blanks K.hG this _) mtX11_blanks mvX11_blanks q1659 rfl rfl rfl (Nat.le_of_ble_eq_true rfl) (by decide) ⟨Nat.zero_le _, Nat.zero_le _⟩ dX11_letters_1) ?_
  refine jr_ex (fun n4 => ?_)
  refine jr_weak (wX11_letters_4 K bc bs this Qj hret n4) ⟨rfl, trivial⟩
theorem metX11_letters (hG : jG l D S0 A0) (this : Nat) (Qj : JP) : Met l yX11_letters (ws_ yX11_letters cX11_letters 1 none) (jrm 14 0 0) (va_Pc [.ref this] (jB D S0 (JX11_letters this Qj))) (va_Qv Qj (fun σ t => jRep D S0.heap.size σ t.heap) (jA S0)) 0 0 (jA S0) :=
  jr_start hG (by decide) (Nat.le_of_ble_eq_true rfl) rfl fun p e s m below meth c K hr hn => wX11_letters K _ _ this Qj (fun _ _ _ _ d => jr_vret K hr d)
theorem wX11_isWord_24 (K : JK p l R s m args meth c D S0 A0 4 cX11_isWord "MoveNotesModel" 16) (bc bs : Nat) (sK : Nat → Nat) (this : Nat) (p1 : Nat) (Qj : Int32 → JP) (hS : jSt S0 sK) (hret : jRetZ p l e R s m args below meth c Q D S0 4 cX11_isWord Qj) : ∀ (n : Nat) (x2_24 : Int32) (x3_24 : Int32), JR p l e R s m args below meth c Q D S0 4 bc bs (jit (FX11_isWord_24 sK this p1 Qj) (fun _ _ => jbot) n x2_24 x3_24) 24 [some (.ref this), some (.ref p1), some (.int x2_24), some (.int x3_24)] [] := by
  intro n
  induction n with
  | zero =>
    intro x2_24 x3_24
    exact JR.bot
  | succ n ih24 =>
    intro x2_24 x3_24
    show JR p l e R s m args below meth c Q D S0 4 bc bs (FX11_isWord_24 sK this p1 Qj (jit (FX11_isWord_24 sK this p1 Qj) (fun _ _ => jbot) n) x2_24 x3_24) 24 [some (.ref this), some (.ref p1), some (.int x2_24), some (.int x3_24)] []
    generalize jit (FX11_isWord_24 sK this p1 Qj) (fun _ _ => jbot) n = rec24 at ih24 ⊢
    unfold FX11_isWord_24
    refine jr_iload_n K dX11_isWord_24 rfl ?_
    refine jr_if_eq K (tgt := 67) dX11_isWord_25 (by decide) ?_ ?_
    · refine jr_iload_n K dX11_isWord_67 rfl ?_
      exact hret _ _ _ _ _ dX11_isWord_68
    · refine jr_iload_n K dX11_isWord_28 rfl ?_
      refine jr_aload_n K dX11_isWord_29 rfl ?_
      refine jr_calli0 (jrun_VS (As := []) (st := [.int x3_24]) K hS rfl (metJ3_length K.hG hS p1 _) mtJ3_length mvJ3_length q1680 rfl rfl (Nat.le_of_ble_eq_true rfl) (by decide) ⟨Nat.zero_le _, Nat.zero_le _⟩ dX11_isWord_30) (fun v30 => ?_)
      refine jr_icmp_ge K (tgt := 67) dX11_isWord_33 (by decide) ?_ ?_
      · refine jr_iload_n K dX11_isWord_67 rfl ?_
        exact hret _ _ _ _ _ dX11_isWord_68
      · refine jr_aload_n K dX11_isWord_36 rfl ?_
        refine jr_getA K gf_X11_20 dX11_isWord_37 (fun v37 => ?_)
        refine jr_aload_n K dX11_isWord_40 rfl ?_
        refine jr_getI K gf_X11_130 dX11_isWord_41 (fun v41 => ?_)
        refine jr_iload_n K dX11_isWord_44 rfl ?_
        refine jr_iadd K dX11_isWord_45 ?_
        refine jr_bald K dX11_isWord_46 (fun v46 => ?_)
        refine jr_aload_n K dX11_isWord_47 rfl ?_
        refine jr_iload_n K dX11_isWord_48 rfl ?_
        refine jr_calli0 (jrun_VS (As := [.int x3_24]) (st := [.int v46]) K hS rfl (metJ3_charAt K.hG hS p1 x3_24 _) mtJ3_charAt mvJ3_charAt q1681 rfl rfl (Nat.le_of_ble_eq_true rfl) (by decide) ⟨Nat.zero_le _, Nat.zero_le _⟩ dX11_isWord_49) (fun v49 => ?_)
        refine jr_join (fun (k60 : Int32 → JP) => ∀ (s0_60 : Int32), JR p l e R s m args below meth c Q D S0 4 bc bs (k60 s0_60) 60 [some (.ref this), some (.ref p1), none, some (.int x3_24)] [.int s0_60]) ?_ (fun k60 hk60 => ?_)
        · intro s0_60
          refine jr_istore_n K (L' := [some (.ref this), some (.ref p1), some (.int s0_60), some (.int x3_24)]) dX11_isWord_60 (by decide) rfl rfl ?_
          refine jr_iinc K (v := (x3_24 + (nI 1))) (L' := [some (.ref this), some (.ref p1), some (.int s0_60), some (.int (x3_24 + (nI 1)))]) dX11_isWord_61 rfl rfl (by decide) rfl rfl ?_
          refine jr_goto K (tgt := 24) dX11_isWord_64 (by decide) ?_
          exact jr_weak (ih24 s0_60 (x3_24 + (nI 1))) ⟨rfl, rfl, rfl, rfl, trivial⟩
        refine jr_icmp_ne K (tgt := 59) dX11_isWord_52 (by decide) ?_ ?_
        · refine jr_iconst K dX11_isWord_59 (v := (nI 0)) (by decide) ?_
          exact jr_weak (hk60 (nI 0)) ⟨rfl, rfl, rfl, trivial⟩
        · refine jr_iconst K dX11_isWord_55 (v := (nI 1)) (by decide) ?_
          refine jr_goto K (tgt := 60) dX11_isWord_56 (by decide) ?_
          exact jr_weak (hk60 (nI 1)) ⟨rfl, rfl, rfl, trivial⟩
theorem wX11_isWord (K : JK p l R s m args meth c D S0 A0 4 cX11_isWord "MoveNotesModel" 16) (bc bs : Nat) (sK : Nat → Nat) (this : Nat) (p1 : Nat) (Qj : Int32 → JP) (hS : jSt S0 sK) (hret : jRetZ p l e R s m args below meth c Q D S0 4 cX11_isWord Qj) : JR p l e R s m args below meth c Q D S0 4 bc bs (JX11_isWord sK this p1 Qj) 0 [some (.ref this), some (.ref p1), none, none] [] := by
  unfold JX11_isWord
  refine jr_aload_n K dX11_isWord_0 rfl ?_
  refine jr_getI K gf_X11_121 dX11_isWord_1 (fun v1 => ?_)
  refine jr_aload_n K dX11_isWord_4 rfl ?_
  refine jr_getI K gf_X11_130 dX11_isWord_5 (fun v5 => ?_)
  refine jr_isub K dX11_isWord_8 ?_
  refine jr_aload_n K dX11_isWord_9 rfl ?_
  refine jr_calli0 (jrun_VS (As := []) (st := [.int (v1 - v5)]) K hS rfl (metJ3_length K.hG hS p1 _) mtJ3_length mvJ3_length q1680 rfl rfl (Nat.le_of_ble_eq_true rfl) (by decide) ⟨Nat.zero_le _, Nat.zero_le _⟩ dX11_isWord_10) (fun v10 => ?_)
  refine jr_join (fun (k21 : Int32 → JP) => ∀ (s0_21 : Int32), JR p l e R s m args below meth c Q D S0 4 bc bs (k21 s0_21) 21 [some (.ref this), some (.ref p1), none, none] [.int s0_21]) ?_ (fun k21 hk21 => ?_)
  · intro s0_21
    refine jr_istore_n K (L' := [some (.ref this), some (.ref p1), some (.int s0_21), none]) dX11_isWord_21 (by decide) rfl rfl ?_
    refine jr_iconst K dX11_isWord_22 (v := (nI 0)) (by decide) ?_
    refine jr_istore_n K (L' := [some (.ref this), some (.ref p1), some (.int s0_21), some (.int (nI 0))]) dX11_isWord_23 (by decide) rfl rfl ?_
    refine jr_ex (fun n24 => ?_)
    refine jr_weak (wX11_isWord_24 K bc bs sK this p1 Qj hS hret n24 s0_21 (nI 0)) ⟨rfl, rfl, rfl, rfl, trivial⟩
  refine jr_icmp_ne K (tgt := 20) dX11_isWord_13 (by decide) ?_ ?_
  · refine jr_iconst K dX11_isWord_20 (v := (nI 0)) (by decide) ?_
    exact jr_weak (hk21 (nI 0)) ⟨rfl, rfl, trivial⟩
  · refine jr_iconst K dX11_isWord_16 (v := (nI 1)) (by decide) ?_
    refine jr_goto K (tgt := 21) dX11_isWord_17 (by decide) ?_
    exact jr_weak (hk21 (nI 1)) ⟨rfl, rfl, trivial⟩
theorem metX11_isWord (hG : jG l D S0 A0) {sK : Nat → Nat} (hS : jSt S0 sK) (this : Nat) (p1 : Nat) (Qj : Int32 → JP) : Met l yX11_isWord (ws_ yX11_isWord cX11_isWord 4 (some .boolean)) (jrm 16 0 0) (va_Pc [.ref this, .ref p1] (jB D S0 (JX11_isWord sK this p1 Qj))) (va_Qi Qj (fun σ t => jRep D S0.heap.size σ t.heap) (jA S0)) 0 0 (jA S0) :=
  jr_start hG (by decide) (Nat.le_of_ble_eq_true rfl) rfl fun p e s m below meth c K hr hn => wX11_isWord K _ _ sK this p1 Qj hS (fun _ _ _ _ _ d => jr_zret K hr d)
theorem wX11_number_6 (K : JK p l R s m args meth c D S0 A0 4 cX11_number "MoveNotesModel" 14) (bc bs : Nat) (this : Nat) (p1 : Int32) (p2 : Int32) (k65 : Int32 → JP) (hk65 : ∀ (y3_65 : Int32), JR p l e R s m args below meth c Q D S0 4 bc bs (k65 y3_65) 65 [some (.ref this), some (.int p1), some (.int p2), some (.int y3_65)] []) : ∀ (n : Nat) (x3_6 : Int32), JR p l e R s m args below meth c Q D S0 4 bc bs (jit (FX11_number_6 this k65) (fun _ => jbot) n x3_6) 6 [some (.ref this), some (.int p1), some (.int p2), some (.int x3_6)] [] := by
  intro n
  induction n with
  | zero =>
    intro x3_6
    exact JR.bot
  | succ n ih6 =>
    intro x3_6
    show JR p l e R s m args below meth c Q D S0 4 bc bs (FX11_number_6 this k65 (jit (FX11_number_6 this k65) (fun _ => jbot) n) x3_6) 6 [some (.ref this), some (.int p1), some (.int p2), some (.int x3_6)] []
    generalize jit (FX11_number_6 this k65) (fun _ => jbot) n = rec6 at ih6 ⊢
    unfold FX11_number_6
    refine jr_aload_n K dX11_number_6 rfl ?_
    refine jr_bipush K dX11_number_7 (v := (nI 48)) (by decide) ?_
    refine jr_bipush K dX11_number_9 (v := (nI 57)) (by decide) ?_
    refine jr_calli0 (jrun_V (As := [.int (nI 48), .int (nI 57)]) (st := []) (ci := 11) K (metX11_isAt K.hG this (nI 48) (nI 57) _) mtX11_isAt mvX11_isAt q1663 rfl rfl rfl (Nat.le_of_ble_eq_true rfl) (by decide) ⟨Nat.zero_le _, Nat.zero_le _⟩ dX11_number_11) (fun v11 => ?_)
    refine jr_if_eq K (tgt := 65) dX11_number_14 (by decide) ?_ ?_
    · exact jr_weak (hk65 x3_6) ⟨rfl, rfl, rfl, rfl, trivial⟩
    · refine jr_aload_n K dX11_number_17 rfl ?_
      refine jr_getI K gf_X11_121 dX11_number_18 (fun v18 => ?_)
      refine jr_aload_n K dX11_number_21 rfl ?_
      refine jr_getI K gf_X11_130 dX11_number_22 (fun v22 => ?_)
      refine jr_isub K dX11_number_25 ?_
      refine jr_iconst K dX11_number_26 (v := (nI 3)) (by decide) ?_
      refine jr_join (fun (k51 : Int32 → JP) => ∀ (s0_51 : Int32), JR p l e R s m args below meth c Q D S0 4 bc bs (k51 s0_51) 51 [some (.ref this), some (.int p1), some (.int p2), none] [.int s0_51]) ?_ (fun k51 hk51 => ?_)
      · intro s0_51
        refine jr_istore_n K (L' := [some (.ref this), some (.int p1), some (.int p2), some (.int s0_51)]) dX11_number_51 (by decide) rfl rfl ?_
        refine jr_aload_n K dX11_number_52 rfl ?_
        refine jr_dup K dX11_number_53 rfl ?_
        refine jr_getI K gf_X11_121 dX11_number_54 (fun v54 => ?_)
        refine jr_iconst K dX11_number_57 (v := (nI 1)) (by decide) ?_
        refine jr_iadd K dX11_number_58 ?_
        refine jr_put K pf_X11_121 dX11_number_59 rfl rfl ?_
        refine jr_goto K (tgt := 6) dX11_number_62 (by decide) ?_
        exact jr_weak (ih6 s0_51) ⟨rfl, rfl, rfl, rfl, trivial⟩
      refine jr_icmp_ge K (tgt := 50) dX11_number_27 (by decide) ?_ ?_
      · refine jr_iload_n K dX11_number_50 rfl ?_
        exact jr_weak (hk51 x3_6) ⟨rfl, rfl, rfl, trivial⟩
      · refine jr_bipush K dX11_number_30 (v := (nI 10)) (by decide) ?_
        refine jr_iload_n K dX11_number_32 rfl ?_
        refine jr_imul K dX11_number_33 ?_
        refine jr_aload_n K dX11_number_34 rfl ?_
        refine jr_getA K gf_X11_20 dX11_number_35 (fun v35 => ?_)
        refine jr_aload_n K dX11_number_38 rfl ?_
        refine jr_getI K gf_X11_121 dX11_number_39 (fun v39 => ?_)
        refine jr_bald K dX11_number_42 (fun v42 => ?_)
        refine jr_iadd K dX11_number_43 ?_
        refine jr_bipush K dX11_number_44 (v := (nI 48)) (by decide) ?_
        refine jr_isub K dX11_number_46 ?_
        refine jr_goto K (tgt := 51) dX11_number_47 (by decide) ?_
        exact jr_weak (hk51 ((((nI 10) * x3_6) + v42) - (nI 48))) ⟨rfl, rfl, rfl, trivial⟩
theorem wX11_number (K : JK p l R s m args meth c D S0 A0 4 cX11_number "MoveNotesModel" 14) (bc bs : Nat) (this : Nat) (p1 : Int32) (p2 : Int32) (Qj : Int32 → JP) (hret : jRetI p l e R s m args below meth c Q D S0 4 cX11_number Qj) : JR p l e R s m args below meth c Q D S0 4 bc bs (JX11_number this p1 p2 Qj) 0 [some (.ref this), some (.int p1), some (.int p2), none] [] := by
  unfold JX11_number
  refine jr_aload_n K dX11_number_0 rfl ?_
  refine jr_callv0 (jrun_V (As := []) (st := []) (ci := 11) K (metX11_blanks K.hG this _) mtX11_blanks mvX11_blanks q1659 rfl rfl rfl (Nat.le_of_ble_eq_true rfl) (by decide) ⟨Nat.zero_le _, Nat.zero_le _⟩ dX11_number_1) ?_
  refine jr_iconst K dX11_number_4 (v := (nI 0)) (by decide) ?_
  refine jr_istore_n K (L' := [some (.ref this), some (.int p1), some (.int p2), some (.int (nI 0))]) dX11_number_5 (by decide) rfl rfl ?_
  refine jr_ex (fun n6 => ?_)
  refine jr_weak (wX11_number_6 K bc bs this p1 p2 _ ?_ n6 (nI 0)) ⟨rfl, rfl, rfl, rfl, trivial⟩
  · intro y3_65
    refine jr_aload_n K dX11_number_65 rfl ?_
    refine jr_getI K gf_X11_121 dX11_number_66 (fun v66 => ?_)
    refine jr_aload_n K dX11_number_69 rfl ?_
    refine jr_getI K gf_X11_130 dX11_number_70 (fun v70 => ?_)
    refine jr_join (fun (k99 : JP) => JR p l e R s m args below meth c Q D S0 4 bc bs k99 99 [none, none, none, none] []) ?_ (fun k99 hk99 => ?_)
    · refine jr_iconst K dX11_number_99 (v := (-1)) (by decide) ?_
      refine jr_goto K (tgt := 104) dX11_number_100 (by decide) ?_
      exact hret _ _ _ _ _ dX11_number_104
    refine jr_icmp_eq K (tgt := 99) dX11_number_73 (by decide) ?_ ?_
    · exact jr_weak (hk99) trivial
    · refine jr_aload_n K dX11_number_76 rfl ?_
      refine jr_getI K gf_X11_121 dX11_number_77 (fun v77 => ?_)
      refine jr_aload_n K dX11_number_80 rfl ?_
      refine jr_getI K gf_X11_130 dX11_number_81 (fun v81 => ?_)
      refine jr_isub K dX11_number_84 ?_
      refine jr_iconst K dX11_number_85 (v := (nI 3)) (by decide) ?_
      refine jr_icmp_gt K (tgt := 99) dX11_number_86 (by decide) ?_ ?_
      · exact jr_weak (hk99) trivial
      · refine jr_iload_n K dX11_number_89 rfl ?_
        refine jr_iload_n K dX11_number_90 rfl ?_
        refine jr_icmp_lt K (tgt := 99) dX11_number_91 (by decide) ?_ ?_
        · exact jr_weak (hk99) trivial
        · refine jr_iload_n K dX11_number_94 rfl ?_
          refine jr_iload_n K dX11_number_95 rfl ?_
          refine jr_icmp_le K (tgt := 103) dX11_number_96 (by decide) ?_ ?_
          · refine jr_iload_n K dX11_number_103 rfl ?_
            exact hret _ _ _ _ _ dX11_number_104
          · exact jr_weak (hk99) trivial
theorem metX11_number (hG : jG l D S0 A0) (this : Nat) (p1 : Int32) (p2 : Int32) (Qj : Int32 → JP) : Met l yX11_number (ws_ yX11_number cX11_number 4 (some .int)) (jrm 14 0 0) (va_Pc [.ref this, .int p1, .int p2] (jB D S0 (JX11_number this p1 p2 Qj))) (va_Qi Qj (fun σ t => jRep D S0.heap.size σ t.heap) (jA S0)) 0 0 (jA S0) :=
  jr_start hG (by decide) (Nat.le_of_ble_eq_true rfl) rfl fun p e s m below meth c K hr hn => wX11_number K _ _ this p1 p2 Qj (fun _ _ _ _ _ d => jr_iret K hr rfl d)
theorem wX11_readKindLine (K : JK p l R s m args meth c D S0 A0 3 cX11_readKindLine "MoveNotesModel" 17) (bc bs : Nat) (sK : Nat → Nat) (this : Nat) (p1 : Int32) (Qj : Int32 → JP) (hS : jSt S0 sK) (hret : jRetZ p l e R s m args below meth c Q D S0 3 cX11_readKindLine Qj) : JR p l e R s m args below meth c Q D S0 3 bc bs (JX11_readKindLine sK this p1 Qj) 0 [some (.ref this), some (.int p1), none] [] := by
  unfold JX11_readKindLine
  refine jr_aload_n K dX11_readKindLine_0 rfl ?_
  refine jr_ldcS2 K hS (4, 215, "straight") (by decide) dX11_readKindLine_1 ?_
  refine jr_calli0 (jrun_V (As := [.ref (sK 4)]) (st := []) (ci := 11) K (metX11_isWord K.hG hS this (sK 4) _) mtX11_isWord mvX11_isWord q1676 rfl rfl rfl (Nat.le_of_ble_eq_true rfl) (by decide) ⟨Nat.zero_le _, Nat.zero_le _⟩ dX11_readKindLine_3) (fun v3 => ?_)
  refine jr_join (fun (k66 : Int32 → JP) => ∀ (s0_66 : Int32), JR p l e R s m args below meth c Q D S0 3 bc bs (k66 s0_66) 66 [some (.ref this), some (.int p1), none] [.int s0_66]) ?_ (fun k66 hk66 => ?_)
  · intro s0_66
    refine jr_istore_n K (L' := [some (.ref this), some (.int p1), some (.int s0_66)]) dX11_readKindLine_66 (by decide) rfl rfl ?_
    refine jr_aload_n K dX11_readKindLine_67 rfl ?_
    refine jr_getA K gf_X11_30 dX11_readKindLine_68 (fun v68 => ?_)
    refine jr_iconst K dX11_readKindLine_71 (v := (nI 2)) (by decide) ?_
    refine jr_iload_n K dX11_readKindLine_72 rfl ?_
    refine jr_imul K dX11_readKindLine_73 ?_
    refine jr_iload_n K dX11_readKindLine_74 rfl ?_
    refine jr_iast K dX11_readKindLine_75 ?_
    refine jr_aload_n K dX11_readKindLine_76 rfl ?_
    refine jr_getA K gf_X11_30 dX11_readKindLine_77 (fun v77 => ?_)
    refine jr_iconst K dX11_readKindLine_80 (v := (nI 2)) (by decide) ?_
    refine jr_iload_n K dX11_readKindLine_81 rfl ?_
    refine jr_imul K dX11_readKindLine_82 ?_
    refine jr_iconst K dX11_readKindLine_83 (v := (nI 1)) (by decide) ?_
    refine jr_iadd K dX11_readKindLine_84 ?_
    refine jr_iload_n K dX11_readKindLine_85 rfl ?_
    refine jr_join (fun (k104 : Int32 → JP) => ∀ (s2_104 : Int32), JR p l e R s m args below meth c Q D S0 3 bc bs (k104 s2_104) 104 [some (.ref this), some (.int p1), some (.int s0_66)] [.int s2_104, .int (((nI 2) * p1) + (nI 1)), .ref v77]) ?_ (fun k104 hk104 => ?_)
    · intro s2_104
      refine jr_iast K dX11_readKindLine_104 ?_
      refine jr_iload_n K dX11_readKindLine_105 rfl ?_
      refine jr_join (fun (k126 : JP) => JR p l e R s m args below meth c Q D S0 3 bc bs k126 126 [none, none, none] []) ?_ (fun k126 hk126 => ?_)
      · refine jr_iconst K dX11_readKindLine_126 (v := (nI 0)) (by decide) ?_
        exact JR.imp (fun _ h => ⟨Or.inl rfl, h⟩) (hret _ _ _ _ _ dX11_readKindLine_127)
      refine jr_if_lt K (tgt := 126) dX11_readKindLine_106 (by decide) ?_ ?_
      · exact jr_weak (hk126) trivial
      · refine jr_aload_n K dX11_readKindLine_109 rfl ?_
        refine jr_getA K gf_X11_30 dX11_readKindLine_110 (fun v110 => ?_)
        refine jr_iconst K dX11_readKindLine_113 (v := (nI 2)) (by decide) ?_
        refine jr_iload_n K dX11_readKindLine_114 rfl ?_
        refine jr_imul K dX11_readKindLine_115 ?_
        refine jr_iconst K dX11_readKindLine_116 (v := (nI 1)) (by decide) ?_
        refine jr_iadd K dX11_readKindLine_117 ?_
        refine jr_iald K dX11_readKindLine_118 (fun v118 => ?_)
        refine jr_if_lt K (tgt := 126) dX11_readKindLine_119 (by decide) ?_ ?_
        · exact jr_weak (hk126) trivial
        · refine jr_iconst K dX11_readKindLine_122 (v := (nI 1)) (by decide) ?_
          refine jr_goto K (tgt := 127) dX11_readKindLine_123 (by decide) ?_
          exact JR.imp (fun _ h => ⟨Or.inr rfl, h⟩) (hret _ _ _ _ _ dX11_readKindLine_127)
    refine jr_join (fun (k103 : JP) => JR p l e R s m args below meth c Q D S0 3 bc bs k103 103 [some (.ref this), some (.int p1), some (.int s0_66)] [.int (((nI 2) * p1) + (nI 1)), .ref v77]) ?_ (fun k103 hk103 => ?_)
    · refine jr_iconst K dX11_readKindLine_103 (v := (nI 0)) (by decide) ?_
      exact jr_weak (hk104 (nI 0)) ⟨rfl, rfl, rfl, trivial⟩
    refine jr_if_lt K (tgt := 103) dX11_readKindLine_86 (by decide) ?_ ?_
    · exact jr_weak (hk103) ⟨rfl, rfl, rfl, trivial⟩
    · refine jr_iload_n K dX11_readKindLine_89 rfl ?_
      refine jr_iconst K dX11_readKindLine_90 (v := (nI 3)) (by decide) ?_
      refine jr_icmp_ge K (tgt := 103) dX11_readKindLine_91 (by decide) ?_ ?_
      · exact jr_weak (hk103) ⟨rfl, rfl, rfl, trivial⟩
      · refine jr_aload_n K dX11_readKindLine_94 rfl ?_
        refine jr_iconst K dX11_readKindLine_95 (v := (nI 1)) (by decide) ?_
        refine jr_iconst K dX11_readKindLine_96 (v := (nI 5)) (by decide) ?_
        refine jr_calli0 (jrun_V (As := [.int (nI 1), .int (nI 5)]) (st := [.int (((nI 2) * p1) + (nI 1)), .ref v77]) (ci := 11) K (metX11_number K.hG this (nI 1) (nI 5) _) mtX11_number mvX11_number q1686 rfl rfl rfl (Nat.le_of_ble_eq_true rfl) (by decide) ⟨Nat.zero_le _, Nat.zero_le _⟩ dX11_readKindLine_97) (fun v97 => ?_)
        refine jr_goto K (tgt := 104) dX11_readKindLine_100 (by decide) ?_
        exact jr_weak (hk104 v97) ⟨rfl, rfl, rfl, trivial⟩
  refine jr_if_eq K (tgt := 13) dX11_readKindLine_6 (by decide) ?_ ?_
  · refine jr_aload_n K dX11_readKindLine_13 rfl ?_
    refine jr_ldcS2 K hS (5, 217, "slant") (by decide) dX11_readKindLine_14 ?_
    refine jr_calli0 (jrun_V (As := [.ref (sK 5)]) (st := []) (ci := 11) K (metX11_isWord K.hG hS this (sK 5) _) mtX11_isWord mvX11_isWord q1676 rfl rfl rfl (Nat.le_of_ble_eq_true rfl) (by decide) ⟨Nat.zero_le _, Nat.zero_le _⟩ dX11_readKindLine_16) (fun v16 => ?_)
    refine jr_if_eq K (tgt := 26) dX11_readKindLine_19 (by decide) ?_ ?_
    · refine jr_aload_n K dX11_readKindLine_26 rfl ?_
      refine jr_ldcS2 K hS (6, 219, "ahead") (by decide) dX11_readKindLine_27 ?_
      refine jr_calli0 (jrun_V (As := [.ref (sK 6)]) (st := []) (ci := 11) K (metX11_isWord K.hG hS this (sK 6) _) mtX11_isWord mvX11_isWord q1676 rfl rfl rfl (Nat.le_of_ble_eq_true rfl) (by decide) ⟨Nat.zero_le _, Nat.zero_le _⟩ dX11_readKindLine_29) (fun v29 => ?_)
      refine jr_if_eq K (tgt := 39) dX11_readKindLine_32 (by decide) ?_ ?_
      · refine jr_aload_n K dX11_readKindLine_39 rfl ?_
        refine jr_ldcS2 K hS (7, 221, "leap") (by decide) dX11_readKindLine_40 ?_
        refine jr_calli0 (jrun_V (As := [.ref (sK 7)]) (st := []) (ci := 11) K (metX11_isWord K.hG hS this (sK 7) _) mtX11_isWord mvX11_isWord q1676 rfl rfl rfl (Nat.le_of_ble_eq_true rfl) (by decide) ⟨Nat.zero_le _, Nat.zero_le _⟩ dX11_readKindLine_42) (fun v42 => ?_)
        refine jr_if_eq K (tgt := 52) dX11_readKindLine_45 (by decide) ?_ ?_
        · refine jr_aload_n K dX11_readKindLine_52 rfl ?_
          refine jr_ldcS2 K hS (8, 223, "bite") (by decide) dX11_readKindLine_53 ?_
          refine jr_calli0 (jrun_V (As := [.ref (sK 8)]) (st := []) (ci := 11) K (metX11_isWord K.hG hS this (sK 8) _) mtX11_isWord mvX11_isWord q1676 rfl rfl rfl (Nat.le_of_ble_eq_true rfl) (by decide) ⟨Nat.zero_le _, Nat.zero_le _⟩ dX11_readKindLine_55) (fun v55 => ?_)
          refine jr_if_eq K (tgt := 65) dX11_readKindLine_58 (by decide) ?_ ?_
          · refine jr_iconst K dX11_readKindLine_65 (v := (-1)) (by decide) ?_
            exact jr_weak (hk66 (-1)) ⟨rfl, rfl, trivial⟩
          · refine jr_iconst K dX11_readKindLine_61 (v := (nI 4)) (by decide) ?_
            refine jr_goto K (tgt := 66) dX11_readKindLine_62 (by decide) ?_
            exact jr_weak (hk66 (nI 4)) ⟨rfl, rfl, trivial⟩
        · refine jr_iconst K dX11_readKindLine_48 (v := (nI 3)) (by decide) ?_
          refine jr_goto K (tgt := 66) dX11_readKindLine_49 (by decide) ?_
          exact jr_weak (hk66 (nI 3)) ⟨rfl, rfl, trivial⟩
      · refine jr_iconst K dX11_readKindLine_35 (v := (nI 2)) (by decide) ?_
        refine jr_goto K (tgt := 66) dX11_readKindLine_36 (by decide) ?_
        exact jr_weak (hk66 (nI 2)) ⟨rfl, rfl, trivial⟩
    · refine jr_iconst K dX11_readKindLine_22 (v := (nI 1)) (by decide) ?_
      refine jr_goto K (tgt := 66) dX11_readKindLine_23 (by decide) ?_
      exact jr_weak (hk66 (nI 1)) ⟨rfl, rfl, trivial⟩
  · refine jr_iconst K dX11_readKindLine_9 (v := (nI 0)) (by decide) ?_
    refine jr_goto K (tgt := 66) dX11_readKindLine_10 (by decide) ?_
    exact jr_weak (hk66 (nI 0)) ⟨rfl, rfl, trivial⟩
theorem metX11_readKindLine (hG : jG l D S0 A0) {sK : Nat → Nat} (hS : jSt S0 sK) (this : Nat) (p1 : Int32) (Qj : Int32 → JP) : Met l yX11_readKindLine (ws_ yX11_readKindLine cX11_readKindLine 3 (some .boolean)) (jrm 17 0 0) (va_Pc [.ref this, .int p1] (jB D S0 (JX11_readKindLine sK this p1 Qj))) (va_Qi Qj (fun σ t => jRep D S0.heap.size σ t.heap) (jA S0)) 0 0 (jA S0) :=
  jr_start hG (by decide) (Nat.le_of_ble_eq_true rfl) rfl fun p e s m below meth c K hr hn => wX11_readKindLine K _ _ sK this p1 Qj hS (fun _ _ _ _ _ d => jr_zret K hr d)
theorem wX11_keepsAt (K : JK p l R s m args meth c D S0 A0 3 cX11_keepsAt "MoveNotesModel" 12) (bc bs : Nat) (this : Nat) (p1 : Int32) (p2 : Int32) (Qj : Int32 → JP) (hret : jRetZ p l e R s m args below meth c Q D S0 3 cX11_keepsAt Qj) : JR p l e R s m args below meth c Q D S0 3 bc bs (JX11_keepsAt this p1 p2 Qj) 0 [some (.ref this), some (.int p1), some (.int p2)] [] := by
  unfold JX11_keepsAt
  refine jr_aload_n K dX11_keepsAt_0 rfl ?_
  refine jr_getA K gf_X11_13 dX11_keepsAt_1 (fun v1 => ?_)
  refine jr_iload_n K dX11_keepsAt_4 rfl ?_
  refine jr_iload_n K dX11_keepsAt_5 rfl ?_
  refine jr_iast K dX11_keepsAt_6 ?_
  refine jr_iload_n K dX11_keepsAt_7 rfl ?_
  refine jr_if_lt K (tgt := 15) dX11_keepsAt_8 (by decide) ?_ ?_
  · refine jr_iconst K dX11_keepsAt_15 (v := (nI 0)) (by decide) ?_
    exact JR.imp (fun _ h => ⟨Or.inl rfl, h⟩) (hret _ _ _ _ _ dX11_keepsAt_16)
  · refine jr_iconst K dX11_keepsAt_11 (v := (nI 1)) (by decide) ?_
    refine jr_goto K (tgt := 16) dX11_keepsAt_12 (by decide) ?_
    exact JR.imp (fun _ h => ⟨Or.inr rfl, h⟩) (hret _ _ _ _ _ dX11_keepsAt_16)
theorem metX11_keepsAt (hG : jG l D S0 A0) (this : Nat) (p1 : Int32) (p2 : Int32) (Qj : Int32 → JP) : Met l yX11_keepsAt (ws_ yX11_keepsAt cX11_keepsAt 3 (some .boolean)) (jrm 12 0 0) (va_Pc [.ref this, .int p1, .int p2] (jB D S0 (JX11_keepsAt this p1 p2 Qj))) (va_Qi Qj (fun σ t => jRep D S0.heap.size σ t.heap) (jA S0)) 0 0 (jA S0) :=
  jr_start hG (by decide) (Nat.le_of_ble_eq_true rfl) rfl fun p e s m below meth c K hr hn => wX11_keepsAt K _ _ this p1 p2 Qj (fun _ _ _ _ _ d => jr_zret K hr d)
theorem wX11_sign (K : JK p l R s m args meth c D S0 A0 2 cX11_sign "MoveNotesModel" 14) (bc bs : Nat) (this : Nat) (p1 : Int32) (Qj : Int32 → JP) (hret : jRetZ p l e R s m args below meth c Q D S0 2 cX11_sign Qj) : JR p l e R s m args below meth c Q D S0 2 bc bs (JX11_sign this p1 Qj) 0 [some (.ref this), some (.int p1)] [] := by
  unfold JX11_sign
  refine jr_aload_n K dX11_sign_0 rfl ?_
  refine jr_callv0 (jrun_V (As := []) (st := []) (ci := 11) K (metX11_blanks K.hG this _) mtX11_blanks mvX11_blanks q1659 rfl rfl rfl (Nat.le_of_ble_eq_true rfl) (by decide) ⟨Nat.zero_le _, Nat.zero_le _⟩ dX11_sign_1) ?_
  refine jr_aload_n K dX11_sign_4 rfl ?_
  refine jr_iload_n K dX11_sign_5 rfl ?_
  refine jr_iload_n K dX11_sign_6 rfl ?_
  refine jr_calli0 (jrun_V (As := [.int p1, .int p1]) (st := []) (ci := 11) K (metX11_isAt K.hG this p1 p1 _) mtX11_isAt mvX11_isAt q1663 rfl rfl rfl (Nat.le_of_ble_eq_true rfl) (by decide) ⟨Nat.zero_le _, Nat.zero_le _⟩ dX11_sign_7) (fun v7 => ?_)
  refine jr_if_ne K (tgt := 15) dX11_sign_10 (by decide) ?_ ?_
  · refine jr_aload_n K dX11_sign_15 rfl ?_
    refine jr_dup K dX11_sign_16 rfl ?_
    refine jr_getI K gf_X11_121 dX11_sign_17 (fun v17 => ?_)
    refine jr_iconst K dX11_sign_20 (v := (nI 1)) (by decide) ?_
    refine jr_iadd K dX11_sign_21 ?_
    refine jr_put K pf_X11_121 dX11_sign_22 rfl rfl ?_
    refine jr_iconst K dX11_sign_25 (v := (nI 1)) (by decide) ?_
    exact JR.imp (fun _ h => ⟨Or.inr rfl, h⟩) (hret _ _ _ _ _ dX11_sign_26)
  · refine jr_iconst K dX11_sign_13 (v := (nI 0)) (by decide) ?_
    exact JR.imp (fun _ h => ⟨Or.inl rfl, h⟩) (hret _ _ _ _ _ dX11_sign_14)
theorem metX11_sign (hG : jG l D S0 A0) (this : Nat) (p1 : Int32) (Qj : Int32 → JP) : Met l yX11_sign (ws_ yX11_sign cX11_sign 2 (some .boolean)) (jrm 14 0 0) (va_Pc [.ref this, .int p1] (jB D S0 (JX11_sign this p1 Qj))) (va_Qi Qj (fun σ t => jRep D S0.heap.size σ t.heap) (jA S0)) 0 0 (jA S0) :=
  jr_start hG (by decide) (Nat.le_of_ble_eq_true rfl) rfl fun p e s m below meth c K hr hn => wX11_sign K _ _ this p1 Qj (fun _ _ _ _ _ d => jr_zret K hr d)
theorem wX11_factAt (K : JK p l R s m args meth c D S0 A0 1 cX11_factAt "MoveNotesModel" 17) (bc bs : Nat) (sK : Nat → Nat) (this : Nat) (Qj : Int32 → JP) (hS : jSt S0 sK) (hret : jRetI p l e R s m args below meth c Q D S0 1 cX11_factAt Qj) : JR p l e R s m args below meth c Q D S0 1 bc bs (JX11_factAt sK this Qj) 0 [some (.ref this)] [] := by
  unfold JX11_factAt
  refine jr_aload_n K dX11_factAt_0 rfl ?_
  refine jr_ldcS2 K hS (0, 156, "took") (by decide) dX11_factAt_1 ?_
  refine jr_calli0 (jrun_V (As := [.ref (sK 0)]) (st := []) (ci := 11) K (metX11_isWord K.hG hS this (sK 0) _) mtX11_isWord mvX11_isWord q1676 rfl rfl rfl (Nat.le_of_ble_eq_true rfl) (by decide) ⟨Nat.zero_le _, Nat.zero_le _⟩ dX11_factAt_3) (fun v3 => ?_)
  refine jr_if_eq K (tgt := 13) dX11_factAt_6 (by decide) ?_ ?_
  · refine jr_aload_n K dX11_factAt_13 rfl ?_
    refine jr_ldcS2 K hS (1, 158, "value") (by decide) dX11_factAt_14 ?_
    refine jr_calli0 (jrun_V (As := [.ref (sK 1)]) (st := []) (ci := 11) K (metX11_isWord K.hG hS this (sK 1) _) mtX11_isWord mvX11_isWord q1676 rfl rfl rfl (Nat.le_of_ble_eq_true rfl) (by decide) ⟨Nat.zero_le _, Nat.zero_le _⟩ dX11_factAt_16) (fun v16 => ?_)
    refine jr_if_eq K (tgt := 26) dX11_factAt_19 (by decide) ?_ ?_
    · refine jr_aload_n K dX11_factAt_26 rfl ?_
      refine jr_ldcS2 K hS (2, 159, "number") (by decide) dX11_factAt_27 ?_
      refine jr_calli0 (jrun_V (As := [.ref (sK 2)]) (st := []) (ci := 11) K (metX11_isWord K.hG hS this (sK 2) _) mtX11_isWord mvX11_isWord q1676 rfl rfl rfl (Nat.le_of_ble_eq_true rfl) (by decide) ⟨Nat.zero_le _, Nat.zero_le _⟩ dX11_factAt_29) (fun v29 => ?_)
      refine jr_if_eq K (tgt := 39) dX11_factAt_32 (by decide) ?_ ?_
      · refine jr_aload_n K dX11_factAt_39 rfl ?_
        refine jr_ldcS2 K hS (3, 161, "men") (by decide) dX11_factAt_40 ?_
        refine jr_calli0 (jrun_V (As := [.ref (sK 3)]) (st := []) (ci := 11) K (metX11_isWord K.hG hS this (sK 3) _) mtX11_isWord mvX11_isWord q1676 rfl rfl rfl (Nat.le_of_ble_eq_true rfl) (by decide) ⟨Nat.zero_le _, Nat.zero_le _⟩ dX11_factAt_42) (fun v42 => ?_)
        refine jr_if_eq K (tgt := 52) dX11_factAt_45 (by decide) ?_ ?_
        · refine jr_iconst K dX11_factAt_52 (v := (-1)) (by decide) ?_
          exact hret _ _ _ _ _ dX11_factAt_53
        · refine jr_iconst K dX11_factAt_48 (v := (nI 3)) (by decide) ?_
          refine jr_goto K (tgt := 53) dX11_factAt_49 (by decide) ?_
          exact hret _ _ _ _ _ dX11_factAt_53
      · refine jr_iconst K dX11_factAt_35 (v := (nI 2)) (by decide) ?_
        refine jr_goto K (tgt := 53) dX11_factAt_36 (by decide) ?_
        exact hret _ _ _ _ _ dX11_factAt_53
    · refine jr_iconst K dX11_factAt_22 (v := (nI 1)) (by decide) ?_
      refine jr_goto K (tgt := 53) dX11_factAt_23 (by decide) ?_
      exact hret _ _ _ _ _ dX11_factAt_53
  · refine jr_iconst K dX11_factAt_9 (v := (nI 0)) (by decide) ?_
    refine jr_goto K (tgt := 53) dX11_factAt_10 (by decide) ?_
    exact hret _ _ _ _ _ dX11_factAt_53
theorem metX11_factAt (hG : jG l D S0 A0) {sK : Nat → Nat} (hS : jSt S0 sK) (this : Nat) (Qj : Int32 → JP) : Met l yX11_factAt (ws_ yX11_factAt cX11_factAt 1 (some .int)) (jrm 17 0 0) (va_Pc [.ref this] (jB D S0 (JX11_factAt sK this Qj))) (va_Qi Qj (fun σ t => jRep D S0.heap.size σ t.heap) (jA S0)) 0 0 (jA S0) :=
  jr_start hG (by decide) (Nat.le_of_ble_eq_true rfl) rfl fun p e s m below meth c K hr hn => wX11_factAt K _ _ sK this Qj hS (fun _ _ _ _ _ d => jr_iret K hr rfl d)
theorem wX11_passes (K : JK p l R s m args meth c D S0 A0 2 cX11_passes "MoveNotesModel" 17) (bc bs : Nat) (sK : Nat → Nat) (this : Nat) (p1 : Nat) (Qj : Int32 → JP) (hS : jSt S0 sK) (hret : jRetZ p l e R s m args below meth c Q D S0 2 cX11_passes Qj) : JR p l e R s m args below meth c Q D S0 2 bc bs (JX11_passes sK this p1 Qj) 0 [some (.ref this), some (.ref p1)] [] := by
  unfold JX11_passes
  refine jr_aload_n K dX11_passes_0 rfl ?_
  refine jr_callv0 (jrun_V (As := []) (st := []) (ci := 11) K (metX11_letters K.hG this _) mtX11_letters mvX11_letters q1667 rfl rfl rfl (Nat.le_of_ble_eq_true rfl) (by decide) ⟨Nat.zero_le _, Nat.zero_le _⟩ dX11_passes_1) ?_
  refine jr_aload_n K dX11_passes_4 rfl ?_
  refine jr_aload_n K dX11_passes_5 rfl ?_
  refine jr_calli0 (jrun_V (As := [.ref p1]) (st := []) (ci := 11) K (metX11_isWord K.hG hS this p1 _) mtX11_isWord mvX11_isWord q1676 rfl rfl rfl (Nat.le_of_ble_eq_true rfl) (by decide) ⟨Nat.zero_le _, Nat.zero_le _⟩ dX11_passes_6) (fun v6 => ?_)
  refine jr_if_eq K (tgt := 14) dX11_passes_9 (by decide) ?_ ?_
  · refine jr_aload_n K dX11_passes_14 rfl ?_
    refine jr_aload_n K dX11_passes_15 rfl ?_
    refine jr_getI K gf_X11_130 dX11_passes_16 (fun v16 => ?_)
    refine jr_put K pf_X11_121 dX11_passes_19 rfl rfl ?_
    refine jr_iconst K dX11_passes_22 (v := (nI 0)) (by decide) ?_
    exact JR.imp (fun _ h => ⟨Or.inl rfl, h⟩) (hret _ _ _ _ _ dX11_passes_23)
  · refine jr_iconst K dX11_passes_12 (v := (nI 1)) (by decide) ?_
    exact JR.imp (fun _ h => ⟨Or.inr rfl, h⟩) (hret _ _ _ _ _ dX11_passes_13)
theorem metX11_passes (hG : jG l D S0 A0) {sK : Nat → Nat} (hS : jSt S0 sK) (this : Nat) (p1 : Nat) (Qj : Int32 → JP) : Met l yX11_passes (ws_ yX11_passes cX11_passes 2 (some .boolean)) (jrm 17 0 0) (va_Pc [.ref this, .ref p1] (jB D S0 (JX11_passes sK this p1 Qj))) (va_Qi Qj (fun σ t => jRep D S0.heap.size σ t.heap) (jA S0)) 0 0 (jA S0) :=
  jr_start hG (by decide) (Nat.le_of_ble_eq_true rfl) rfl fun p e s m below meth c K hr hn => wX11_passes K _ _ sK this p1 Qj hS (fun _ _ _ _ _ d => jr_zret K hr d)
theorem wX11_emits (K : JK p l R s m args meth c D S0 A0 4 cX11_emits "MoveNotesModel" 12) (bc bs : Nat) (this : Nat) (p1 : Int32) (p2 : Int32) (Qj : JP) (hret : jRetV p l e R s m args below meth c Q D S0 4 cX11_emits Qj) : JR p l e R s m args below meth c Q D S0 4 bc bs (JX11_emits this p1 p2 Qj) 0 [some (.ref this), some (.int p1), some (.int p2), none] [] := by
  unfold JX11_emits
  refine jr_sipush K dX11_emits_0 (v := (nI 1325)) (by decide) ?_
  refine jr_iconst K dX11_emits_3 (v := (nI 2)) (by decide) ?_
  refine jr_aload_n K dX11_emits_4 rfl ?_
  refine jr_getI K gf_X11_153 dX11_emits_5 (fun v5 => ?_)
  refine jr_imul K dX11_emits_8 ?_
  refine jr_iadd K dX11_emits_9 ?_
  refine jr_istore_n K (L' := [some (.ref this), some (.int p1), some (.int p2), some (.int ((nI 1325) + ((nI 2) * v5)))]) dX11_emits_10 (by decide) rfl rfl ?_
  refine jr_aload_n K dX11_emits_11 rfl ?_
  refine jr_getA K gf_X11_13 dX11_emits_12 (fun v12 => ?_)
  refine jr_iload_n K dX11_emits_15 rfl ?_
  refine jr_iload_n K dX11_emits_16 rfl ?_
  refine jr_iast K dX11_emits_17 ?_
  refine jr_aload_n K dX11_emits_18 rfl ?_
  refine jr_getA K gf_X11_13 dX11_emits_19 (fun v19 => ?_)
  refine jr_iload_n K dX11_emits_22 rfl ?_
  refine jr_iconst K dX11_emits_23 (v := (nI 1)) (by decide) ?_
  refine jr_iadd K dX11_emits_24 ?_
  refine jr_iload_n K dX11_emits_25 rfl ?_
  refine jr_iast K dX11_emits_26 ?_
  refine jr_aload_n K dX11_emits_27 rfl ?_
  refine jr_dup K dX11_emits_28 rfl ?_
  refine jr_getI K gf_X11_153 dX11_emits_29 (fun v29 => ?_)
  refine jr_iconst K dX11_emits_32 (v := (nI 1)) (by decide) ?_
  refine jr_iadd K dX11_emits_33 ?_
  refine jr_put K pf_X11_153 dX11_emits_34 rfl rfl ?_
  exact hret _ _ _ _ dX11_emits_37
theorem metX11_emits (hG : jG l D S0 A0) (this : Nat) (p1 : Int32) (p2 : Int32) (Qj : JP) : Met l yX11_emits (ws_ yX11_emits cX11_emits 4 none) (jrm 12 0 0) (va_Pc [.ref this, .int p1, .int p2] (jB D S0 (JX11_emits this p1 p2 Qj))) (va_Qv Qj (fun σ t => jRep D S0.heap.size σ t.heap) (jA S0)) 0 0 (jA S0) :=
  jr_start hG (by decide) (Nat.le_of_ble_eq_true rfl) rfl fun p e s m below meth c K hr hn => wX11_emits K _ _ this p1 p2 Qj (fun _ _ _ _ d => jr_vret K hr d)
theorem wX11_readPart (K : JK p l R s m args meth c D S0 A0 2 cX11_readPart "MoveNotesModel" 18) (bc bs : Nat) (sK : Nat → Nat) (this : Nat) (Qj : Int32 → JP) (hS : jSt S0 sK) (hret : jRetZ p l e R s m args below meth c Q D S0 2 cX11_readPart Qj) : JR p l e R s m args below meth c Q D S0 2 bc bs (JX11_readPart sK this Qj) 0 [some (.ref this), none] [] := by
  unfold JX11_readPart
  refine jr_aload_n K dX11_readPart_0 rfl ?_
  refine jr_callv0 (jrun_V (As := []) (st := []) (ci := 11) K (metX11_letters K.hG this _) mtX11_letters mvX11_letters q1667 rfl rfl rfl (Nat.le_of_ble_eq_true rfl) (by decide) ⟨Nat.zero_le _, Nat.zero_le _⟩ dX11_readPart_1) ?_
  refine jr_iconst K dX11_readPart_4 (v := (-1)) (by decide) ?_
  refine jr_istore_n K (L' := [some (.ref this), some (.int (-1))]) dX11_readPart_5 (by decide) rfl rfl ?_
  refine jr_aload_n K dX11_readPart_6 rfl ?_
  refine jr_getI K gf_X11_121 dX11_readPart_7 (fun v7 => ?_)
  refine jr_aload_n K dX11_readPart_10 rfl ?_
  refine jr_getI K gf_X11_130 dX11_readPart_11 (fun v11 => ?_)
  refine jr_join (fun (k47 : Int32 → JP) => ∀ (x1_47 : Int32), JR p l e R s m args below meth c Q D S0 2 bc bs (k47 x1_47) 47 [none, some (.int x1_47)] []) ?_ (fun k47 hk47 => ?_)
  · intro x1_47
    refine jr_iload_n K dX11_readPart_47 rfl ?_
    refine jr_if_lt K (tgt := 55) dX11_readPart_48 (by decide) ?_ ?_
    · refine jr_iconst K dX11_readPart_55 (v := (nI 0)) (by decide) ?_
      exact JR.imp (fun _ h => ⟨Or.inl rfl, h⟩) (hret _ _ _ _ _ dX11_readPart_56)
    · refine jr_iconst K dX11_readPart_51 (v := (nI 1)) (by decide) ?_
      refine jr_goto K (tgt := 56) dX11_readPart_52 (by decide) ?_
      exact JR.imp (fun _ h => ⟨Or.inr rfl, h⟩) (hret _ _ _ _ _ dX11_readPart_56)
  refine jr_icmp_le K (tgt := 31) dX11_readPart_14 (by decide) ?_ ?_
  · refine jr_aload_n K dX11_readPart_31 rfl ?_
    refine jr_iconst K dX11_readPart_32 (v := (nI 0)) (by decide) ?_
    refine jr_sipush K dX11_readPart_33 (v := (nI 999)) (by decide) ?_
    refine jr_calli0 (jrun_V (As := [.int (nI 0), .int (nI 999)]) (st := []) (ci := 11) K (metX11_number K.hG this (nI 0) (nI 999) _) mtX11_number mvX11_number q1686 rfl rfl rfl (Nat.le_of_ble_eq_true rfl) (by decide) ⟨Nat.zero_le _, Nat.zero_le _⟩ dX11_readPart_36) (fun v36 => ?_)
    refine jr_istore_n K (L' := [some (.ref this), some (.int v36)]) dX11_readPart_39 (by decide) rfl rfl ?_
    refine jr_aload_n K dX11_readPart_40 rfl ?_
    refine jr_bipush K dX11_readPart_41 (v := (nI 6)) (by decide) ?_
    refine jr_iload_n K dX11_readPart_43 rfl ?_
    refine jr_callv0 (jrun_V (As := [.int (nI 6), .int v36]) (st := []) (ci := 11) K (metX11_emits K.hG this (nI 6) v36 _) mtX11_emits mvX11_emits q1729 rfl rfl rfl (Nat.le_of_ble_eq_true rfl) (by decide) ⟨Nat.zero_le _, Nat.zero_le _⟩ dX11_readPart_44) ?_
    exact jr_weak (hk47 v36) ⟨rfl, trivial⟩
  · refine jr_aload_n K dX11_readPart_17 rfl ?_
    refine jr_calli0 (jrun_V (As := []) (st := []) (ci := 11) K (metX11_factAt K.hG hS this _) mtX11_factAt mvX11_factAt q1703 rfl rfl rfl (Nat.le_of_ble_eq_true rfl) (by decide) ⟨Nat.zero_le _, Nat.zero_le _⟩ dX11_readPart_18) (fun v18 => ?_)
    refine jr_istore_n K (L' := [some (.ref this), some (.int v18)]) dX11_readPart_21 (by decide) rfl rfl ?_
    refine jr_aload_n K dX11_readPart_22 rfl ?_
    refine jr_iload_n K dX11_readPart_23 rfl ?_
    refine jr_iconst K dX11_readPart_24 (v := (nI 0)) (by decide) ?_
    refine jr_callv0 (jrun_V (As := [.int v18, .int (nI 0)]) (st := []) (ci := 11) K (metX11_emits K.hG this v18 (nI 0) _) mtX11_emits mvX11_emits q1729 rfl rfl rfl (Nat.le_of_ble_eq_true rfl) (by decide) ⟨Nat.zero_le _, Nat.zero_le _⟩ dX11_readPart_25) ?_
    refine jr_goto K (tgt := 47) dX11_readPart_28 (by decide) ?_
    exact jr_weak (hk47 v18) ⟨rfl, trivial⟩
theorem metX11_readPart (hG : jG l D S0 A0) {sK : Nat → Nat} (hS : jSt S0 sK) (this : Nat) (Qj : Int32 → JP) : Met l yX11_readPart (ws_ yX11_readPart cX11_readPart 2 (some .boolean)) (jrm 18 0 0) (va_Pc [.ref this] (jB D S0 (JX11_readPart sK this Qj))) (va_Qi Qj (fun σ t => jRep D S0.heap.size σ t.heap) (jA S0)) 0 0 (jA S0) :=
  jr_start hG (by decide) (Nat.le_of_ble_eq_true rfl) rfl fun p e s m below meth c K hr hn => wX11_readPart K _ _ sK this Qj hS (fun _ _ _ _ _ d => jr_zret K hr d)
theorem wX11_readSum_9 (K : JK p l R s m args meth c D S0 A0 1 cX11_readSum "MoveNotesModel" 19) (bc bs : Nat) (sK : Nat → Nat) (this : Nat) (Qj : Int32 → JP) (hS : jSt S0 sK) (hret : jRetZ p l e R s m args below meth c Q D S0 1 cX11_readSum Qj) : ∀ (n : Nat), JR p l e R s m args below meth c Q D S0 1 bc bs (jit (FX11_readSum_9 sK this Qj) jbot n) 9 [some (.ref this)] [] := by
  intro n
  induction n with
  | zero =>
    exact JR.bot
  | succ n ih9 =>
    show JR p l e R s m args below meth c Q D S0 1 bc bs (FX11_readSum_9 sK this Qj (jit (FX11_readSum_9 sK this Qj) jbot n)) 9 [some (.ref this)] []
    generalize jit (FX11_readSum_9 sK this Qj) jbot n = rec9 at ih9 ⊢
    unfold FX11_readSum_9
    refine jr_aload_n K dX11_readSum_9 rfl ?_
    refine jr_bipush K dX11_readSum_10 (v := (nI 43)) (by decide) ?_
    refine jr_calli0 (jrun_V (As := [.int (nI 43)]) (st := []) (ci := 11) K (metX11_sign K.hG this (nI 43) _) mtX11_sign mvX11_sign q1699 rfl rfl rfl (Nat.le_of_ble_eq_true rfl) (by decide) ⟨Nat.zero_le _, Nat.zero_le _⟩ dX11_readSum_12) (fun v12 => ?_)
    refine jr_if_eq K (tgt := 37) dX11_readSum_15 (by decide) ?_ ?_
    · refine jr_iconst K dX11_readSum_37 (v := (nI 1)) (by decide) ?_
      exact JR.imp (fun _ h => ⟨Or.inr rfl, h⟩) (hret _ _ _ _ _ dX11_readSum_38)
    · refine jr_aload_n K dX11_readSum_18 rfl ?_
      refine jr_calli0 (jrun_V (As := []) (st := []) (ci := 11) K (metX11_readPart K.hG hS this _) mtX11_readPart mvX11_readPart q1739 rfl rfl rfl (Nat.le_of_ble_eq_true rfl) (by decide) ⟨Nat.zero_le _, Nat.zero_le _⟩ dX11_readSum_19) (fun v19 => ?_)
      refine jr_if_ne K (tgt := 27) dX11_readSum_22 (by decide) ?_ ?_
      · refine jr_aload_n K dX11_readSum_27 rfl ?_
        refine jr_bipush K dX11_readSum_28 (v := (nI 7)) (by decide) ?_
        refine jr_iconst K dX11_readSum_30 (v := (nI 0)) (by decide) ?_
        refine jr_callv0 (jrun_V (As := [.int (nI 7), .int (nI 0)]) (st := []) (ci := 11) K (metX11_emits K.hG this (nI 7) (nI 0) _) mtX11_emits mvX11_emits q1729 rfl rfl rfl (Nat.le_of_ble_eq_true rfl) (by decide) ⟨Nat.zero_le _, Nat.zero_le _⟩ dX11_readSum_31) ?_
        refine jr_goto K (tgt := 9) dX11_readSum_34 (by decide) ?_
        exact jr_weak (ih9) ⟨rfl, trivial⟩
      · refine jr_iconst K dX11_readSum_25 (v := (nI 0)) (by decide) ?_
        exact JR.imp (fun _ h => ⟨Or.inl rfl, h⟩) (hret _ _ _ _ _ dX11_readSum_26)
theorem wX11_readSum (K : JK p l R s m args meth c D S0 A0 1 cX11_readSum "MoveNotesModel" 19) (bc bs : Nat) (sK : Nat → Nat) (this : Nat) (Qj : Int32 → JP) (hS : jSt S0 sK) (hret : jRetZ p l e R s m args below meth c Q D S0 1 cX11_readSum Qj) : JR p l e R s m args below meth c Q D S0 1 bc bs (JX11_readSum sK this Qj) 0 [some (.ref this)] [] := by
  unfold JX11_readSum
  refine jr_aload_n K dX11_readSum_0 rfl ?_
  refine jr_calli0 (jrun_V (As := []) (st := []) (ci := 11) K (metX11_readPart K.hG hS this _) mtX11_readPart mvX11_readPart q1739 rfl rfl rfl (Nat.le_of_ble_eq_true rfl) (by decide) ⟨Nat.zero_le _, Nat.zero_le _⟩ dX11_readSum_1) (fun v1 => ?_)
  refine jr_if_ne K (tgt := 9) dX11_readSum_4 (by decide) ?_ ?_
  · refine jr_ex (fun n9 => ?_)
    refine jr_weak (wX11_readSum_9 K bc bs sK this Qj hS hret n9) ⟨rfl, trivial⟩
  · refine jr_iconst K dX11_readSum_7 (v := (nI 0)) (by decide) ?_
    exact JR.imp (fun _ h => ⟨Or.inl rfl, h⟩) (hret _ _ _ _ _ dX11_readSum_8)
theorem metX11_readSum (hG : jG l D S0 A0) {sK : Nat → Nat} (hS : jSt S0 sK) (this : Nat) (Qj : Int32 → JP) : Met l yX11_readSum (ws_ yX11_readSum cX11_readSum 1 (some .boolean)) (jrm 19 0 0) (va_Pc [.ref this] (jB D S0 (JX11_readSum sK this Qj))) (va_Qi Qj (fun σ t => jRep D S0.heap.size σ t.heap) (jA S0)) 0 0 (jA S0) :=
  jr_start hG (by decide) (Nat.le_of_ble_eq_true rfl) rfl fun p e s m below meth c K hr hn => wX11_readSum K _ _ sK this Qj hS (fun _ _ _ _ _ d => jr_zret K hr d)
theorem wX11_readAllOf_9 (nf : Nat) (K : JK p l R s m args meth c D S0 A0 1 cX11_readAllOf "MoveNotesModel" (19 + (nf + 1))) (bc bs : Nat) (sK : Nat → Nat) (rJX11_readAtom : Nat → (Int32 → JP) → JP) (this : Nat) (Qj : Int32 → JP) (hS : jSt S0 sK) (ihJX11_readAtom : ∀ (this : Nat) (Qj : (Int32 → JP)), Met l yX11_readAtom (ws_ yX11_readAtom cX11_readAtom 3 (some .boolean)) (jrm (19 + nf) 0 0) (va_Pc [.ref this] (jB D S0 (rJX11_readAtom this Qj))) (va_Qi Qj (fun σ t => jRep D S0.heap.size σ t.heap) (jA S0)) 0 0 (jA S0)) (hret : jRetZ p l e R s m args below meth c Q D S0 1 cX11_readAllOf Qj) : ∀ (n : Nat), JR p l e R s m args below meth c Q D S0 1 bc bs (jit (FX11_readAllOf_9 sK rJX11_readAtom this Qj) jbot n) 9 [some (.ref this)] [] := by
  intro n
  induction n with
  | zero =>
    exact JR.bot
  | succ n ih9 =>
    show JR p l e R s m args below meth c Q D S0 1 bc bs (FX11_readAllOf_9 sK rJX11_readAtom this Qj (jit (FX11_readAllOf_9 sK rJX11_readAtom this Qj) jbot n)) 9 [some (.ref this)] []
    generalize jit (FX11_readAllOf_9 sK rJX11_readAtom this Qj) jbot n = rec9 at ih9 ⊢
    unfold FX11_readAllOf_9
    refine jr_aload_n K dX11_readAllOf_9 rfl ?_
    refine jr_ldcS2 K hS (11, 201, "and") (by decide) dX11_readAllOf_10 ?_
    refine jr_calli0 (jrun_V (As := [.ref (sK 11)]) (st := []) (ci := 11) K (metX11_passes K.hG hS this (sK 11) _) mtX11_passes mvX11_passes q1712 rfl rfl rfl (Nat.le_of_ble_eq_true rfl) (by omega) ⟨Nat.zero_le _, Nat.zero_le _⟩ dX11_readAllOf_12) (fun v12 => ?_)
    refine jr_if_eq K (tgt := 37) dX11_readAllOf_15 (by decide) ?_ ?_
    · refine jr_iconst K dX11_readAllOf_37 (v := (nI 1)) (by decide) ?_
      exact JR.imp (fun _ h => ⟨Or.inr rfl, h⟩) (hret _ _ _ _ _ dX11_readAllOf_38)
    · refine jr_aload_n K dX11_readAllOf_18 rfl ?_
      refine jr_calli0 (jrun_V (As := []) (st := []) (ci := 11) K (ihJX11_readAtom this _) mtX11_readAtom mvX11_readAtom q1724 rfl rfl rfl (Nat.le_of_ble_eq_true rfl) (by omega) ⟨Nat.zero_le _, Nat.zero_le _⟩ dX11_readAllOf_19) (fun v19 => ?_)
      refine jr_if_ne K (tgt := 27) dX11_readAllOf_22 (by decide) ?_ ?_
      · refine jr_aload_n K dX11_readAllOf_27 rfl ?_
        refine jr_bipush K dX11_readAllOf_28 (v := (nI 11)) (by decide) ?_
        refine jr_iconst K dX11_readAllOf_30 (v := (nI 0)) (by decide) ?_
        refine jr_callv0 (jrun_V (As := [.int (nI 11), .int (nI 0)]) (st := []) (ci := 11) K (metX11_emits K.hG this (nI 11) (nI 0) _) mtX11_emits mvX11_emits q1729 rfl rfl rfl (Nat.le_of_ble_eq_true rfl) (by omega) ⟨Nat.zero_le _, Nat.zero_le _⟩ dX11_readAllOf_31) ?_
        refine jr_goto K (tgt := 9) dX11_readAllOf_34 (by decide) ?_
        exact jr_weak (ih9) ⟨rfl, trivial⟩
      · refine jr_iconst K dX11_readAllOf_25 (v := (nI 0)) (by decide) ?_
        exact JR.imp (fun _ h => ⟨Or.inl rfl, h⟩) (hret _ _ _ _ _ dX11_readAllOf_26)
theorem wX11_readAllOf (nf : Nat) (K : JK p l R s m args meth c D S0 A0 1 cX11_readAllOf "MoveNotesModel" (19 + (nf + 1))) (bc bs : Nat) (sK : Nat → Nat) (rJX11_readAllOf : Nat → (Int32 → JP) → JP) (rJX11_readAtom : Nat → (Int32 → JP) → JP) (rJX11_readCond : Nat → (Int32 → JP) → JP) (this : Nat) (Qj : Int32 → JP) (hS : jSt S0 sK) (ihJX11_readAllOf : ∀ (this : Nat) (Qj : (Int32 → JP)), Met l yX11_readAllOf (ws_ yX11_readAllOf cX11_readAllOf 1 (some .boolean)) (jrm (19 + nf) 0 0) (va_Pc [.ref this] (jB D S0 (rJX11_readAllOf this Qj))) (va_Qi Qj (fun σ t => jRep D S0.heap.size σ t.heap) (jA S0)) 0 0 (jA S0)) (ihJX11_readAtom : ∀ (this : Nat) (Qj : (Int32 → JP)), Met l yX11_readAtom (ws_ yX11_readAtom cX11_readAtom 3 (some .boolean)) (jrm (19 + nf) 0 0) (va_Pc [.ref this] (jB D S0 (rJX11_readAtom this Qj))) (va_Qi Qj (fun σ t => jRep D S0.heap.size σ t.heap) (jA S0)) 0 0 (jA S0)) (ihJX11_readCond : ∀ (this : Nat) (Qj : (Int32 → JP)), Met l yX11_readCond (ws_ yX11_readCond cX11_readCond 1 (some .boolean)) (jrm (19 + nf) 0 0) (va_Pc [.ref this] (jB D S0 (rJX11_readCond this Qj))) (va_Qi Qj (fun σ t => jRep D S0.heap.size σ t.heap) (jA S0)) 0 0 (jA S0)) (hret : jRetZ p l e R s m args below meth c Q D S0 1 cX11_readAllOf Qj) : JR p l e R s m args below meth c Q D S0 1 bc bs (JX11_readAllOfF sK rJX11_readAllOf rJX11_readAtom rJX11_readCond this Qj) 0 [some (.ref this)] [] := by
  unfold JX11_readAllOfF
  refine jr_aload_n K dX11_readAllOf_0 rfl ?_
  refine jr_calli0 (jrun_V (As := []) (st := []) (ci := 11) K (ihJX11_readAtom this _) mtX11_readAtom mvX11_readAtom q1724 rfl rfl rfl (Nat.le_of_ble_eq_true rfl) (by omega) ⟨Nat.zero_le _, Nat.zero_le _⟩ dX11_readAllOf_1) (fun v1 => ?_)
  refine jr_if_ne K (tgt := 9) dX11_readAllOf_4 (by decide) ?_ ?_
  · refine jr_ex (fun n9 => ?_)
    refine jr_weak (wX11_readAllOf_9 nf K bc bs sK rJX11_readAtom this Qj hS ihJX11_readAtom hret n9) ⟨rfl, trivial⟩
  · refine jr_iconst K dX11_readAllOf_7 (v := (nI 0)) (by decide) ?_
    exact JR.imp (fun _ h => ⟨Or.inl rfl, h⟩) (hret _ _ _ _ _ dX11_readAllOf_8)
theorem wX11_readAtom (nf : Nat) (K : JK p l R s m args meth c D S0 A0 3 cX11_readAtom "MoveNotesModel" (19 + (nf + 1))) (bc bs : Nat) (sK : Nat → Nat) (rJX11_readAllOf : Nat → (Int32 → JP) → JP) (rJX11_readAtom : Nat → (Int32 → JP) → JP) (rJX11_readCond : Nat → (Int32 → JP) → JP) (this : Nat) (Qj : Int32 → JP) (hS : jSt S0 sK) (ihJX11_readAllOf : ∀ (this : Nat) (Qj : (Int32 → JP)), Met l yX11_readAllOf (ws_ yX11_readAllOf cX11_readAllOf 1 (some .boolean)) (jrm (19 + nf) 0 0) (va_Pc [.ref this] (jB D S0 (rJX11_readAllOf this Qj))) (va_Qi Qj (fun σ t => jRep D S0.heap.size σ t.heap) (jA S0)) 0 0 (jA S0)) (ihJX11_readAtom : ∀ (this : Nat) (Qj : (Int32 → JP)), Met l yX11_readAtom (ws_ yX11_readAtom cX11_readAtom 3 (some .boolean)) (jrm (19 + nf) 0 0) (va_Pc [.ref this] (jB D S0 (rJX11_readAtom this Qj))) (va_Qi Qj (fun σ t => jRep D S0.heap.size σ t.heap) (jA S0)) 0 0 (jA S0)) (ihJX11_readCond : ∀ (this : Nat) (Qj : (Int32 → JP)), Met l yX11_readCond (ws_ yX11_readCond cX11_readCond 1 (some .boolean)) (jrm (19 + nf) 0 0) (va_Pc [.ref this] (jB D S0 (rJX11_readCond this Qj))) (va_Qi Qj (fun σ t => jRep D S0.heap.size σ t.heap) (jA S0)) 0 0 (jA S0)) (hret : jRetZ p l e R s m args below meth c Q D S0 3 cX11_readAtom Qj) : JR p l e R s m args below meth c Q D S0 3 bc bs (JX11_readAtomF sK rJX11_readAllOf rJX11_readAtom rJX11_readCond this Qj) 0 [some (.ref this), none, none] [] := by
  unfold JX11_readAtomF
  refine jr_aload_n K dX11_readAtom_0 rfl ?_
  refine jr_bipush K dX11_readAtom_1 (v := (nI 40)) (by decide) ?_
  refine jr_calli0 (jrun_V (As := [.int (nI 40)]) (st := []) (ci := 11) K (metX11_sign K.hG this (nI 40) _) mtX11_sign mvX11_sign q1699 rfl rfl rfl (Nat.le_of_ble_eq_true rfl) (by omega) ⟨Nat.zero_le _, Nat.zero_le _⟩ dX11_readAtom_3) (fun v3 => ?_)
  refine jr_if_eq K (tgt := 56) dX11_readAtom_6 (by decide) ?_ ?_
  · refine jr_aload_n K dX11_readAtom_56 rfl ?_
    refine jr_ldcS2 K hS (13, 186, "not") (by decide) dX11_readAtom_57 ?_
    refine jr_calli0 (jrun_V (As := [.ref (sK 13)]) (st := []) (ci := 11) K (metX11_passes K.hG hS this (sK 13) _) mtX11_passes mvX11_passes q1712 rfl rfl rfl (Nat.le_of_ble_eq_true rfl) (by omega) ⟨Nat.zero_le _, Nat.zero_le _⟩ dX11_readAtom_59) (fun v59 => ?_)
    refine jr_if_eq K (tgt := 114) dX11_readAtom_62 (by decide) ?_ ?_
    · refine jr_aload_n K dX11_readAtom_114 rfl ?_
      refine jr_ldcS2 K hS (14, 194, "takes") (by decide) dX11_readAtom_115 ?_
      refine jr_calli0 (jrun_V (As := [.ref (sK 14)]) (st := []) (ci := 11) K (metX11_passes K.hG hS this (sK 14) _) mtX11_passes mvX11_passes q1712 rfl rfl rfl (Nat.le_of_ble_eq_true rfl) (by omega) ⟨Nat.zero_le _, Nat.zero_le _⟩ dX11_readAtom_117) (fun v117 => ?_)
      refine jr_istore_n K (L' := [some (.ref this), some (.int v117), none]) dX11_readAtom_120 (by decide) rfl rfl ?_
      refine jr_iload_n K dX11_readAtom_121 rfl ?_
      refine jr_join (fun (k134 : JP) => JR p l e R s m args below meth c Q D S0 3 bc bs k134 134 [some (.ref this), some (.int v117), none] []) ?_ (fun k134 hk134 => ?_)
      · refine jr_aload_n K dX11_readAtom_134 rfl ?_
        refine jr_iload_n K dX11_readAtom_135 rfl ?_
        refine jr_join (fun (k144 : Int32 → JP) => ∀ (s1_144 : Int32), JR p l e R s m args below meth c Q D S0 3 bc bs (k144 s1_144) 144 [none, none, none] [.int s1_144, .ref this]) ?_ (fun k144 hk144 => ?_)
        · intro s1_144
          refine jr_iconst K dX11_readAtom_144 (v := (nI 0)) (by decide) ?_
          refine jr_callv0 (jrun_V (As := [.int s1_144, .int (nI 0)]) (st := []) (ci := 11) K (metX11_emits K.hG this s1_144 (nI 0) _) mtX11_emits mvX11_emits q1729 rfl rfl rfl (Nat.le_of_ble_eq_true rfl) (by omega) ⟨Nat.zero_le _, Nat.zero_le _⟩ dX11_readAtom_145) ?_
          refine jr_iconst K dX11_readAtom_148 (v := (nI 1)) (by decide) ?_
          exact JR.imp (fun _ h => ⟨Or.inr rfl, h⟩) (hret _ _ _ _ _ dX11_readAtom_149)
        refine jr_if_eq K (tgt := 143) dX11_readAtom_136 (by decide) ?_ ?_
        · refine jr_iconst K dX11_readAtom_143 (v := (nI 5)) (by decide) ?_
          exact jr_weak (hk144 (nI 5)) trivial
        · refine jr_iconst K dX11_readAtom_139 (v := (nI 4)) (by decide) ?_
          refine jr_goto K (tgt := 144) dX11_readAtom_140 (by decide) ?_
          exact jr_weak (hk144 (nI 4)) trivial
      refine jr_if_ne K (tgt := 134) dX11_readAtom_122 (by decide) ?_ ?_
      · exact jr_weak (hk134) ⟨rfl, rfl, trivial⟩
      · refine jr_aload_n K dX11_readAtom_125 rfl ?_
        refine jr_ldcS2 K hS (15, 196, "safe") (by decide) dX11_readAtom_126 ?_
        refine jr_calli0 (jrun_V (As := [.ref (sK 15)]) (st := []) (ci := 11) K (metX11_passes K.hG hS this (sK 15) _) mtX11_passes mvX11_passes q1712 rfl rfl rfl (Nat.le_of_ble_eq_true rfl) (by omega) ⟨Nat.zero_le _, Nat.zero_le _⟩ dX11_readAtom_128) (fun v128 => ?_)
        refine jr_if_eq K (tgt := 150) dX11_readAtom_131 (by decide) ?_ ?_
        · refine jr_aload_n K dX11_readAtom_150 rfl ?_
          refine jr_calli0 (jrun_V (As := []) (st := []) (ci := 11) K (metX11_readSum K.hG hS this _) mtX11_readSum mvX11_readSum q1735 rfl rfl rfl (Nat.le_of_ble_eq_true rfl) (by omega) ⟨Nat.zero_le _, Nat.zero_le _⟩ dX11_readAtom_151) (fun v151 => ?_)
          refine jr_if_ne K (tgt := 159) dX11_readAtom_154 (by decide) ?_ ?_
          · refine jr_aload_n K dX11_readAtom_159 rfl ?_
            refine jr_bipush K dX11_readAtom_160 (v := (nI 60)) (by decide) ?_
            refine jr_calli0 (jrun_V (As := [.int (nI 60)]) (st := []) (ci := 11) K (metX11_sign K.hG this (nI 60) _) mtX11_sign mvX11_sign q1699 rfl rfl rfl (Nat.le_of_ble_eq_true rfl) (by omega) ⟨Nat.zero_le _, Nat.zero_le _⟩ dX11_readAtom_162) (fun v162 => ?_)
            refine jr_istore_n K (L' := [some (.ref this), some (.int v117), some (.int v162)]) dX11_readAtom_165 (by decide) rfl rfl ?_
            refine jr_iload_n K dX11_readAtom_166 rfl ?_
            refine jr_join (fun (k179 : JP) => JR p l e R s m args below meth c Q D S0 3 bc bs k179 179 [some (.ref this), none, some (.int v162)] []) ?_ (fun k179 hk179 => ?_)
            · refine jr_aload_n K dX11_readAtom_179 rfl ?_
              refine jr_calli0 (jrun_V (As := []) (st := []) (ci := 11) K (metX11_readSum K.hG hS this _) mtX11_readSum mvX11_readSum q1735 rfl rfl rfl (Nat.le_of_ble_eq_true rfl) (by omega) ⟨Nat.zero_le _, Nat.zero_le _⟩ dX11_readAtom_180) (fun v180 => ?_)
              refine jr_if_ne K (tgt := 188) dX11_readAtom_183 (by decide) ?_ ?_
              · refine jr_aload_n K dX11_readAtom_188 rfl ?_
                refine jr_iload_n K dX11_readAtom_189 rfl ?_
                refine jr_join (fun (k200 : Int32 → JP) => ∀ (s1_200 : Int32), JR p l e R s m args below meth c Q D S0 3 bc bs (k200 s1_200) 200 [none, none, none] [.int s1_200, .ref this]) ?_ (fun k200 hk200 => ?_)
                · intro s1_200
                  refine jr_iconst K dX11_readAtom_200 (v := (nI 0)) (by decide) ?_
                  refine jr_callv0 (jrun_V (As := [.int s1_200, .int (nI 0)]) (st := []) (ci := 11) K (metX11_emits K.hG this s1_200 (nI 0) _) mtX11_emits mvX11_emits q1729 rfl rfl rfl (Nat.le_of_ble_eq_true rfl) (by omega) ⟨Nat.zero_le _, Nat.zero_le _⟩ dX11_readAtom_201) ?_
                  refine jr_iconst K dX11_readAtom_204 (v := (nI 1)) (by decide) ?_
                  exact JR.imp (fun _ h => ⟨Or.inr rfl, h⟩) (hret _ _ _ _ _ dX11_readAtom_205)
                refine jr_if_eq K (tgt := 198) dX11_readAtom_190 (by decide) ?_ ?_
                · refine jr_bipush K dX11_readAtom_198 (v := (nI 9)) (by decide) ?_
                  exact jr_weak (hk200 (nI 9)) trivial
                · refine jr_bipush K dX11_readAtom_193 (v := (nI 8)) (by decide) ?_
                  refine jr_goto K (tgt := 200) dX11_readAtom_195 (by decide) ?_
                  exact jr_weak (hk200 (nI 8)) trivial
              · refine jr_iconst K dX11_readAtom_186 (v := (nI 0)) (by decide) ?_
                exact JR.imp (fun _ h => ⟨Or.inl rfl, h⟩) (hret _ _ _ _ _ dX11_readAtom_187)
            refine jr_if_ne K (tgt := 179) dX11_readAtom_167 (by decide) ?_ ?_
            · exact jr_weak (hk179) ⟨rfl, rfl, trivial⟩
            · refine jr_aload_n K dX11_readAtom_170 rfl ?_
              refine jr_bipush K dX11_readAtom_171 (v := (nI 62)) (by decide) ?_
              refine jr_calli0 (jrun_V (As := [.int (nI 62)]) (st := []) (ci := 11) K (metX11_sign K.hG this (nI 62) _) mtX11_sign mvX11_sign q1699 rfl rfl rfl (Nat.le_of_ble_eq_true rfl) (by omega) ⟨Nat.zero_le _, Nat.zero_le _⟩ dX11_readAtom_173) (fun v173 => ?_)
              refine jr_if_eq K (tgt := 186) dX11_readAtom_176 (by decide) ?_ ?_
              · refine jr_iconst K dX11_readAtom_186 (v := (nI 0)) (by decide) ?_
                exact JR.imp (fun _ h => ⟨Or.inl rfl, h⟩) (hret _ _ _ _ _ dX11_readAtom_187)
              · exact jr_weak (hk179) ⟨rfl, rfl, trivial⟩
          · refine jr_iconst K dX11_readAtom_157 (v := (nI 0)) (by decide) ?_
            exact JR.imp (fun _ h => ⟨Or.inl rfl, h⟩) (hret _ _ _ _ _ dX11_readAtom_158)
        · exact jr_weak (hk134) ⟨rfl, rfl, trivial⟩
    · refine jr_aload_n K dX11_readAtom_65 rfl ?_
      refine jr_getI K gf_X11_180 dX11_readAtom_66 (fun v66 => ?_)
      refine jr_bipush K dX11_readAtom_69 (v := (nI 6)) (by decide) ?_
      refine jr_icmp_ne K (tgt := 76) dX11_readAtom_71 (by decide) ?_ ?_
      · refine jr_aload_n K dX11_readAtom_76 rfl ?_
        refine jr_dup K dX11_readAtom_77 rfl ?_
        refine jr_getI K gf_X11_180 dX11_readAtom_78 (fun v78 => ?_)
        refine jr_iconst K dX11_readAtom_81 (v := (nI 1)) (by decide) ?_
        refine jr_iadd K dX11_readAtom_82 ?_
        refine jr_put K pf_X11_180 dX11_readAtom_83 rfl rfl ?_
        refine jr_aload_n K dX11_readAtom_86 rfl ?_
        refine jr_calli0 (jrun_V (As := []) (st := []) (ci := 11) K (ihJX11_readAtom this _) mtX11_readAtom mvX11_readAtom q1724 rfl rfl rfl (Nat.le_of_ble_eq_true rfl) (by omega) ⟨Nat.zero_le _, Nat.zero_le _⟩ dX11_readAtom_87) (fun v87 => ?_)
        refine jr_if_ne K (tgt := 95) dX11_readAtom_90 (by decide) ?_ ?_
        · refine jr_aload_n K dX11_readAtom_95 rfl ?_
          refine jr_dup K dX11_readAtom_96 rfl ?_
          refine jr_getI K gf_X11_180 dX11_readAtom_97 (fun v97 => ?_)
          refine jr_iconst K dX11_readAtom_100 (v := (nI 1)) (by decide) ?_
          refine jr_isub K dX11_readAtom_101 ?_
          refine jr_put K pf_X11_180 dX11_readAtom_102 rfl rfl ?_
          refine jr_aload_n K dX11_readAtom_105 rfl ?_
          refine jr_bipush K dX11_readAtom_106 (v := (nI 10)) (by decide) ?_
          refine jr_iconst K dX11_readAtom_108 (v := (nI 0)) (by decide) ?_
          refine jr_callv0 (jrun_V (As := [.int (nI 10), .int (nI 0)]) (st := []) (ci := 11) K (metX11_emits K.hG this (nI 10) (nI 0) _) mtX11_emits mvX11_emits q1729 rfl rfl rfl (Nat.le_of_ble_eq_true rfl) (by omega) ⟨Nat.zero_le _, Nat.zero_le _⟩ dX11_readAtom_109) ?_
          refine jr_iconst K dX11_readAtom_112 (v := (nI 1)) (by decide) ?_
          exact JR.imp (fun _ h => ⟨Or.inr rfl, h⟩) (hret _ _ _ _ _ dX11_readAtom_113)
        · refine jr_iconst K dX11_readAtom_93 (v := (nI 0)) (by decide) ?_
          exact JR.imp (fun _ h => ⟨Or.inl rfl, h⟩) (hret _ _ _ _ _ dX11_readAtom_94)
      · refine jr_iconst K dX11_readAtom_74 (v := (nI 0)) (by decide) ?_
        exact JR.imp (fun _ h => ⟨Or.inl rfl, h⟩) (hret _ _ _ _ _ dX11_readAtom_75)
  · refine jr_aload_n K dX11_readAtom_9 rfl ?_
    refine jr_getI K gf_X11_180 dX11_readAtom_10 (fun v10 => ?_)
    refine jr_bipush K dX11_readAtom_13 (v := (nI 6)) (by decide) ?_
    refine jr_icmp_ne K (tgt := 20) dX11_readAtom_15 (by decide) ?_ ?_
    · refine jr_aload_n K dX11_readAtom_20 rfl ?_
      refine jr_dup K dX11_readAtom_21 rfl ?_
      refine jr_getI K gf_X11_180 dX11_readAtom_22 (fun v22 => ?_)
      refine jr_iconst K dX11_readAtom_25 (v := (nI 1)) (by decide) ?_
      refine jr_iadd K dX11_readAtom_26 ?_
      refine jr_put K pf_X11_180 dX11_readAtom_27 rfl rfl ?_
      refine jr_aload_n K dX11_readAtom_30 rfl ?_
      refine jr_calli0 (jrun_V (As := []) (st := []) (ci := 11) K (ihJX11_readCond this _) mtX11_readCond mvX11_readCond q1716 rfl rfl rfl (Nat.le_of_ble_eq_true rfl) (by omega) ⟨Nat.zero_le _, Nat.zero_le _⟩ dX11_readAtom_31) (fun v31 => ?_)
      refine jr_if_ne K (tgt := 39) dX11_readAtom_34 (by decide) ?_ ?_
      · refine jr_aload_n K dX11_readAtom_39 rfl ?_
        refine jr_dup K dX11_readAtom_40 rfl ?_
        refine jr_getI K gf_X11_180 dX11_readAtom_41 (fun v41 => ?_)
        refine jr_iconst K dX11_readAtom_44 (v := (nI 1)) (by decide) ?_
        refine jr_isub K dX11_readAtom_45 ?_
        refine jr_put K pf_X11_180 dX11_readAtom_46 rfl rfl ?_
        refine jr_aload_n K dX11_readAtom_49 rfl ?_
        refine jr_bipush K dX11_readAtom_50 (v := (nI 41)) (by decide) ?_
        refine jr_calli0 (jrun_V (As := [.int (nI 41)]) (st := []) (ci := 11) K (metX11_sign K.hG this (nI 41) _) mtX11_sign mvX11_sign q1699 rfl rfl rfl (Nat.le_of_ble_eq_true rfl) (by omega) ⟨Nat.zero_le _, Nat.zero_le _⟩ dX11_readAtom_52) (fun v52 => ?_)
        exact hret _ _ _ _ _ dX11_readAtom_55
      · refine jr_iconst K dX11_readAtom_37 (v := (nI 0)) (by decide) ?_
        exact JR.imp (fun _ h => ⟨Or.inl rfl, h⟩) (hret _ _ _ _ _ dX11_readAtom_38)
    · refine jr_iconst K dX11_readAtom_18 (v := (nI 0)) (by decide) ?_
      exact JR.imp (fun _ h => ⟨Or.inl rfl, h⟩) (hret _ _ _ _ _ dX11_readAtom_19)
theorem wX11_readCond_9 (nf : Nat) (K : JK p l R s m args meth c D S0 A0 1 cX11_readCond "MoveNotesModel" (19 + (nf + 1))) (bc bs : Nat) (sK : Nat → Nat) (rJX11_readAllOf : Nat → (Int32 → JP) → JP) (this : Nat) (Qj : Int32 → JP) (hS : jSt S0 sK) (ihJX11_readAllOf : ∀ (this : Nat) (Qj : (Int32 → JP)), Met l yX11_readAllOf (ws_ yX11_readAllOf cX11_readAllOf 1 (some .boolean)) (jrm (19 + nf) 0 0) (va_Pc [.ref this] (jB D S0 (rJX11_readAllOf this Qj))) (va_Qi Qj (fun σ t => jRep D S0.heap.size σ t.heap) (jA S0)) 0 0 (jA S0)) (hret : jRetZ p l e R s m args below meth c Q D S0 1 cX11_readCond Qj) : ∀ (n : Nat), JR p l e R s m args below meth c Q D S0 1 bc bs (jit (FX11_readCond_9 sK rJX11_readAllOf this Qj) jbot n) 9 [some (.ref this)] [] := by
  intro n
  induction n with
  | zero =>
    exact JR.bot
  | succ n ih9 =>
    show JR p l e R s m args below meth c Q D S0 1 bc bs (FX11_readCond_9 sK rJX11_readAllOf this Qj (jit (FX11_readCond_9 sK rJX11_readAllOf this Qj) jbot n)) 9 [some (.ref this)] []
    generalize jit (FX11_readCond_9 sK rJX11_readAllOf this Qj) jbot n = rec9 at ih9 ⊢
    unfold FX11_readCond_9
    refine jr_aload_n K dX11_readCond_9 rfl ?_
    refine jr_ldcS2 K hS (12, 206, "or") (by decide) dX11_readCond_10 ?_
    refine jr_calli0 (jrun_V (As := [.ref (sK 12)]) (st := []) (ci := 11) K (metX11_passes K.hG hS this (sK 12) _) mtX11_passes mvX11_passes q1712 rfl rfl rfl (Nat.le_of_ble_eq_true rfl) (by omega) ⟨Nat.zero_le _, Nat.zero_le _⟩ dX11_readCond_12) (fun v12 => ?_)
    refine jr_if_eq K (tgt := 37) dX11_readCond_15 (by decide) ?_ ?_
    · refine jr_iconst K dX11_readCond_37 (v := (nI 1)) (by decide) ?_
      exact JR.imp (fun _ h => ⟨Or.inr rfl, h⟩) (hret _ _ _ _ _ dX11_readCond_38)
    · refine jr_aload_n K dX11_readCond_18 rfl ?_
      refine jr_calli0 (jrun_V (As := []) (st := []) (ci := 11) K (ihJX11_readAllOf this _) mtX11_readAllOf mvX11_readAllOf q1720 rfl rfl rfl (Nat.le_of_ble_eq_true rfl) (by omega) ⟨Nat.zero_le _, Nat.zero_le _⟩ dX11_readCond_19) (fun v19 => ?_)
      refine jr_if_ne K (tgt := 27) dX11_readCond_22 (by decide) ?_ ?_
      · refine jr_aload_n K dX11_readCond_27 rfl ?_
        refine jr_bipush K dX11_readCond_28 (v := (nI 12)) (by decide) ?_
        refine jr_iconst K dX11_readCond_30 (v := (nI 0)) (by decide) ?_
        refine jr_callv0 (jrun_V (As := [.int (nI 12), .int (nI 0)]) (st := []) (ci := 11) K (metX11_emits K.hG this (nI 12) (nI 0) _) mtX11_emits mvX11_emits q1729 rfl rfl rfl (Nat.le_of_ble_eq_true rfl) (by omega) ⟨Nat.zero_le _, Nat.zero_le _⟩ dX11_readCond_31) ?_
        refine jr_goto K (tgt := 9) dX11_readCond_34 (by decide) ?_
        exact jr_weak (ih9) ⟨rfl, trivial⟩
      · refine jr_iconst K dX11_readCond_25 (v := (nI 0)) (by decide) ?_
        exact JR.imp (fun _ h => ⟨Or.inl rfl, h⟩) (hret _ _ _ _ _ dX11_readCond_26)
theorem wX11_readCond (nf : Nat) (K : JK p l R s m args meth c D S0 A0 1 cX11_readCond "MoveNotesModel" (19 + (nf + 1))) (bc bs : Nat) (sK : Nat → Nat) (rJX11_readAllOf : Nat → (Int32 → JP) → JP) (rJX11_readAtom : Nat → (Int32 → JP) → JP) (rJX11_readCond : Nat → (Int32 → JP) → JP) (this : Nat) (Qj : Int32 → JP) (hS : jSt S0 sK) (ihJX11_readAllOf : ∀ (this : Nat) (Qj : (Int32 → JP)), Met l yX11_readAllOf (ws_ yX11_readAllOf cX11_readAllOf 1 (some .boolean)) (jrm (19 + nf) 0 0) (va_Pc [.ref this] (jB D S0 (rJX11_readAllOf this Qj))) (va_Qi Qj (fun σ t => jRep D S0.heap.size σ t.heap) (jA S0)) 0 0 (jA S0)) (ihJX11_readAtom : ∀ (this : Nat) (Qj : (Int32 → JP)), Met l yX11_readAtom (ws_ yX11_readAtom cX11_readAtom 3 (some .boolean)) (jrm (19 + nf) 0 0) (va_Pc [.ref this] (jB D S0 (rJX11_readAtom this Qj))) (va_Qi Qj (fun σ t => jRep D S0.heap.size σ t.heap) (jA S0)) 0 0 (jA S0)) (ihJX11_readCond : ∀ (this : Nat) (Qj : (Int32 → JP)), Met l yX11_readCond (ws_ yX11_readCond cX11_readCond 1 (some .boolean)) (jrm (19 + nf) 0 0) (va_Pc [.ref this] (jB D S0 (rJX11_readCond this Qj))) (va_Qi Qj (fun σ t => jRep D S0.heap.size σ t.heap) (jA S0)) 0 0 (jA S0)) (hret : jRetZ p l e R s m args below meth c Q D S0 1 cX11_readCond Qj) : JR p l e R s m args below meth c Q D S0 1 bc bs (JX11_readCondF sK rJX11_readAllOf rJX11_readAtom rJX11_readCond this Qj) 0 [some (.ref this)] [] := by
  unfold JX11_readCondF
  refine jr_aload_n K dX11_readCond_0 rfl ?_
  refine jr_calli0 (jrun_V (As := []) (st := []) (ci := 11) K (ihJX11_readAllOf this _) mtX11_readAllOf mvX11_readAllOf q1720 rfl rfl rfl (Nat.le_of_ble_eq_true rfl) (by omega) ⟨Nat.zero_le _, Nat.zero_le _⟩ dX11_readCond_1) (fun v1 => ?_)
  refine jr_if_ne K (tgt := 9) dX11_readCond_4 (by decide) ?_ ?_
  · refine jr_ex (fun n9 => ?_)
    refine jr_weak (wX11_readCond_9 nf K bc bs sK rJX11_readAllOf this Qj hS ihJX11_readAllOf hret n9) ⟨rfl, trivial⟩
  · refine jr_iconst K dX11_readCond_7 (v := (nI 0)) (by decide) ?_
    exact JR.imp (fun _ h => ⟨Or.inl rfl, h⟩) (hret _ _ _ _ _ dX11_readCond_8)
theorem metX11_readAllOfR (hG : jG l D S0 A0) {sK : Nat → Nat} (hS : jSt S0 sK) : ∀ n : Nat, (∀ (this : Nat) (Qj : (Int32 → JP)), Met l yX11_readAllOf (ws_ yX11_readAllOf cX11_readAllOf 1 (some .boolean)) (jrm (19 + n) 0 0) (va_Pc [.ref this] (jB D S0 (JX11_readAllOf sK n this Qj))) (va_Qi Qj (fun σ t => jRep D S0.heap.size σ t.heap) (jA S0)) 0 0 (jA S0)) ∧ (∀ (this : Nat) (Qj : (Int32 → JP)), Met l yX11_readAtom (ws_ yX11_readAtom cX11_readAtom 3 (some .boolean)) (jrm (19 + n) 0 0) (va_Pc [.ref this] (jB D S0 (JX11_readAtom sK n this Qj))) (va_Qi Qj (fun σ t => jRep D S0.heap.size σ t.heap) (jA S0)) 0 0 (jA S0)) ∧ (∀ (this : Nat) (Qj : (Int32 → JP)), Met l yX11_readCond (ws_ yX11_readCond cX11_readCond 1 (some .boolean)) (jrm (19 + n) 0 0) (va_Pc [.ref this] (jB D S0 (JX11_readCond sK n this Qj))) (va_Qi Qj (fun σ t => jRep D S0.heap.size σ t.heap) (jA S0)) 0 0 (jA S0)) := by
  intro n
  induction n with
  | zero =>
    exact ⟨(fun this Qj =>
    jr_start hG (by decide) (Nat.le_of_ble_eq_true rfl) rfl fun p e s m below meth c K hr hn => JR.bot), (fun this Qj =>
    jr_start hG (by decide) (Nat.le_of_ble_eq_true rfl) rfl fun p e s m below meth c K hr hn => JR.bot), (fun this Qj =>
    jr_start hG (by decide) (Nat.le_of_ble_eq_true rfl) rfl fun p e s m below meth c K hr hn => JR.bot)⟩
  | succ n ih =>
    exact ⟨(fun this Qj =>
    jr_start hG (by decide) (Nat.le_of_ble_eq_true rfl) rfl fun p e s m below meth c K hr hn => wX11_readAllOf n K _ _ sK _ _ _ this Qj hS ih.1 ih.2.1 ih.2.2 (fun _ _ _ _ _ d => jr_zret K hr d)), (fun this Qj =>
    jr_start hG (by decide) (Nat.le_of_ble_eq_true rfl) rfl fun p e s m below meth c K hr hn => wX11_readAtom n K _ _ sK _ _ _ this Qj hS ih.1 ih.2.1 ih.2.2 (fun _ _ _ _ _ d => jr_zret K hr d)), (fun this Qj =>
    jr_start hG (by decide) (Nat.le_of_ble_eq_true rfl) rfl fun p e s m below meth c K hr hn => wX11_readCond n K _ _ sK _ _ _ this Qj hS ih.1 ih.2.1 ih.2.2 (fun _ _ _ _ _ d => jr_zret K hr d))⟩
theorem metX11_readAllOf (hG : jG l D S0 A0) {sK : Nat → Nat} (hS : jSt S0 sK) (n : Nat) : ∀ (this : Nat) (Qj : (Int32 → JP)), Met l yX11_readAllOf (ws_ yX11_readAllOf cX11_readAllOf 1 (some .boolean)) (jrm (19 + n) 0 0) (va_Pc [.ref this] (jB D S0 (JX11_readAllOf sK n this Qj))) (va_Qi Qj (fun σ t => jRep D S0.heap.size σ t.heap) (jA S0)) 0 0 (jA S0) := (metX11_readAllOfR hG hS n).1
theorem metX11_readAtom (hG : jG l D S0 A0) {sK : Nat → Nat} (hS : jSt S0 sK) (n : Nat) : ∀ (this : Nat) (Qj : (Int32 → JP)), Met l yX11_readAtom (ws_ yX11_readAtom cX11_readAtom 3 (some .boolean)) (jrm (19 + n) 0 0) (va_Pc [.ref this] (jB D S0 (JX11_readAtom sK n this Qj))) (va_Qi Qj (fun σ t => jRep D S0.heap.size σ t.heap) (jA S0)) 0 0 (jA S0) := (metX11_readAllOfR hG hS n).2.1
theorem metX11_readCond (hG : jG l D S0 A0) {sK : Nat → Nat} (hS : jSt S0 sK) (n : Nat) : ∀ (this : Nat) (Qj : (Int32 → JP)), Met l yX11_readCond (ws_ yX11_readCond cX11_readCond 1 (some .boolean)) (jrm (19 + n) 0 0) (va_Pc [.ref this] (jB D S0 (JX11_readCond sK n this Qj))) (va_Qi Qj (fun σ t => jRep D S0.heap.size σ t.heap) (jA S0)) 0 0 (jA S0) := (metX11_readAllOfR hG hS n).2.2
theorem wX11_readMeasureLine (K : JK p l R s m args meth c D S0 A0 3 cX11_readMeasureLine "MoveNotesModel" 60) (bc bs : Nat) (sK : Nat → Nat) (this : Nat) (p1 : Int32) (Qj : Int32 → JP) (hS : jSt S0 sK) (hret : jRetZ p l e R s m args below meth c Q D S0 3 cX11_readMeasureLine Qj) : JR p l e R s m args below meth c Q D S0 3 bc bs (JX11_readMeasureLine sK this p1 Qj) 0 [some (.ref this), some (.int p1), none] [] := by
  unfold JX11_readMeasureLine
  refine jr_sipush K dX11_readMeasureLine_0 (v := (nI 1285)) (by decide) ?_
  refine jr_iconst K dX11_readMeasureLine_3 (v := (nI 4)) (by decide) ?_
  refine jr_iload_n K dX11_readMeasureLine_4 rfl ?_
  refine jr_imul K dX11_readMeasureLine_5 ?_
  refine jr_iadd K dX11_readMeasureLine_6 ?_
  refine jr_istore_n K (L' := [some (.ref this), some (.int p1), some (.int ((nI 1285) + ((nI 4) * p1)))]) dX11_readMeasureLine_7 (by decide) rfl rfl ?_
  refine jr_aload_n K dX11_readMeasureLine_8 rfl ?_
  refine jr_ldcS2 K hS (9, 208, "add") (by decide) dX11_readMeasureLine_9 ?_
  refine jr_calli0 (jrun_V (As := [.ref (sK 9)]) (st := []) (ci := 11) K (metX11_isWord K.hG hS this (sK 9) _) mtX11_isWord mvX11_isWord q1676 rfl rfl rfl (Nat.le_of_ble_eq_true rfl) (by decide) ⟨Nat.zero_le _, Nat.zero_le _⟩ dX11_readMeasureLine_11) (fun v11 => ?_)
  refine jr_if_eq K (tgt := 33) dX11_readMeasureLine_14 (by decide) ?_ ?_
  · refine jr_iconst K dX11_readMeasureLine_33 (v := (nI 0)) (by decide) ?_
    exact JR.imp (fun _ h => ⟨Or.inl rfl, h⟩) (hret _ _ _ _ _ dX11_readMeasureLine_34)
  · refine jr_aload_n K dX11_readMeasureLine_17 rfl ?_
    refine jr_iload_n K dX11_readMeasureLine_18 rfl ?_
    refine jr_aload_n K dX11_readMeasureLine_19 rfl ?_
    refine jr_iconst K dX11_readMeasureLine_20 (v := (nI 0)) (by decide) ?_
    refine jr_sipush K dX11_readMeasureLine_21 (v := (nI 999)) (by decide) ?_
    refine jr_calli0 (jrun_V (As := [.int (nI 0), .int (nI 999)]) (st := [.int ((nI 1285) + ((nI 4) * p1)), .ref this]) (ci := 11) K (metX11_number K.hG this (nI 0) (nI 999) _) mtX11_number mvX11_number q1686 rfl rfl rfl (Nat.le_of_ble_eq_true rfl) (by decide) ⟨Nat.zero_le _, Nat.zero_le _⟩ dX11_readMeasureLine_24) (fun v24 => ?_)
    refine jr_calli0 (jrun_V (As := [.int ((nI 1285) + ((nI 4) * p1)), .int v24]) (st := []) (ci := 11) K (metX11_keepsAt K.hG this ((nI 1285) + ((nI 4) * p1)) v24 _) mtX11_keepsAt mvX11_keepsAt q1695 rfl rfl rfl (Nat.le_of_ble_eq_true rfl) (by decide) ⟨Nat.zero_le _, Nat.zero_le _⟩ dX11_readMeasureLine_27) (fun v27 => ?_)
    refine jr_if_ne K (tgt := 35) dX11_readMeasureLine_30 (by decide) ?_ ?_
    · refine jr_aload_n K dX11_readMeasureLine_35 rfl ?_
      refine jr_getA K gf_X11_13 dX11_readMeasureLine_36 (fun v36 => ?_)
      refine jr_iload_n K dX11_readMeasureLine_39 rfl ?_
      refine jr_iconst K dX11_readMeasureLine_40 (v := (nI 1)) (by decide) ?_
      refine jr_iadd K dX11_readMeasureLine_41 ?_
      refine jr_iconst K dX11_readMeasureLine_42 (v := (-1)) (by decide) ?_
      refine jr_iast K dX11_readMeasureLine_43 ?_
      refine jr_aload_n K dX11_readMeasureLine_44 rfl ?_
      refine jr_bipush K dX11_readMeasureLine_45 (v := (nI 42)) (by decide) ?_
      refine jr_calli0 (jrun_V (As := [.int (nI 42)]) (st := []) (ci := 11) K (metX11_sign K.hG this (nI 42) _) mtX11_sign mvX11_sign q1699 rfl rfl rfl (Nat.le_of_ble_eq_true rfl) (by decide) ⟨Nat.zero_le _, Nat.zero_le _⟩ dX11_readMeasureLine_47) (fun v47 => ?_)
      refine jr_join (fun (k73 : JP) => JR p l e R s m args below meth c Q D S0 3 bc bs k73 73 [some (.ref this), none, some (.int ((nI 1285) + ((nI 4) * p1)))] []) ?_ (fun k73 hk73 => ?_)
      · refine jr_aload_n K dX11_readMeasureLine_73 rfl ?_
        refine jr_getA K gf_X11_13 dX11_readMeasureLine_74 (fun v74 => ?_)
        refine jr_iload_n K dX11_readMeasureLine_77 rfl ?_
        refine jr_iconst K dX11_readMeasureLine_78 (v := (nI 2)) (by decide) ?_
        refine jr_iadd K dX11_readMeasureLine_79 ?_
        refine jr_aload_n K dX11_readMeasureLine_80 rfl ?_
        refine jr_getI K gf_X11_153 dX11_readMeasureLine_81 (fun v81 => ?_)
        refine jr_iast K dX11_readMeasureLine_84 ?_
        refine jr_aload_n K dX11_readMeasureLine_85 rfl ?_
        refine jr_iconst K dX11_readMeasureLine_86 (v := (nI 0)) (by decide) ?_
        refine jr_put K pf_X11_180 dX11_readMeasureLine_87 rfl rfl ?_
        refine jr_aload_n K dX11_readMeasureLine_90 rfl ?_
        refine jr_ldcS2 K hS (10, 213, "if") (by decide) dX11_readMeasureLine_91 ?_
        refine jr_calli0 (jrun_V (As := [.ref (sK 10)]) (st := []) (ci := 11) K (metX11_passes K.hG hS this (sK 10) _) mtX11_passes mvX11_passes q1712 rfl rfl rfl (Nat.le_of_ble_eq_true rfl) (by decide) ⟨Nat.zero_le _, Nat.zero_le _⟩ dX11_readMeasureLine_93) (fun v93 => ?_)
        refine jr_join (fun (k108 : JP) => JR p l e R s m args below meth c Q D S0 3 bc bs k108 108 [some (.ref this), none, some (.int ((nI 1285) + ((nI 4) * p1)))] []) ?_ (fun k108 hk108 => ?_)
        · refine jr_aload_n K dX11_readMeasureLine_108 rfl ?_
          refine jr_getA K gf_X11_13 dX11_readMeasureLine_109 (fun v109 => ?_)
          refine jr_iload_n K dX11_readMeasureLine_112 rfl ?_
          refine jr_iconst K dX11_readMeasureLine_113 (v := (nI 3)) (by decide) ?_
          refine jr_iadd K dX11_readMeasureLine_114 ?_
          refine jr_aload_n K dX11_readMeasureLine_115 rfl ?_
          refine jr_getI K gf_X11_153 dX11_readMeasureLine_116 (fun v116 => ?_)
          refine jr_iast K dX11_readMeasureLine_119 ?_
          refine jr_iconst K dX11_readMeasureLine_120 (v := (nI 1)) (by decide) ?_
          exact JR.imp (fun _ h => ⟨Or.inr rfl, h⟩) (hret _ _ _ _ _ dX11_readMeasureLine_121)
        refine jr_if_eq K (tgt := 108) dX11_readMeasureLine_96 (by decide) ?_ ?_
        · exact jr_weak (hk108) ⟨rfl, rfl, trivial⟩
        · refine jr_aload_n K dX11_readMeasureLine_99 rfl ?_
          refine jr_calli0 (jrun_V (As := []) (st := []) (ci := 11) K (metX11_readCond K.hG hS 40 this _) mtX11_readCond mvX11_readCond q1716 rfl rfl rfl (Nat.le_of_ble_eq_true rfl) (by decide) ⟨Nat.zero_le _, Nat.zero_le _⟩ dX11_readMeasureLine_100) (fun v100 => ?_)
          refine jr_if_ne K (tgt := 108) dX11_readMeasureLine_103 (by decide) ?_ ?_
          · exact jr_weak (hk108) ⟨rfl, rfl, trivial⟩
          · refine jr_iconst K dX11_readMeasureLine_106 (v := (nI 0)) (by decide) ?_
            exact JR.imp (fun _ h => ⟨Or.inl rfl, h⟩) (hret _ _ _ _ _ dX11_readMeasureLine_107)
      refine jr_if_eq K (tgt := 73) dX11_readMeasureLine_50 (by decide) ?_ ?_
      · exact jr_weak (hk73) ⟨rfl, rfl, trivial⟩
      · refine jr_aload_n K dX11_readMeasureLine_53 rfl ?_
        refine jr_callv0 (jrun_V (As := []) (st := []) (ci := 11) K (metX11_letters K.hG this _) mtX11_letters mvX11_letters q1667 rfl rfl rfl (Nat.le_of_ble_eq_true rfl) (by decide) ⟨Nat.zero_le _, Nat.zero_le _⟩ dX11_readMeasureLine_54) ?_
        refine jr_aload_n K dX11_readMeasureLine_57 rfl ?_
        refine jr_iload_n K dX11_readMeasureLine_58 rfl ?_
        refine jr_iconst K dX11_readMeasureLine_59 (v := (nI 1)) (by decide) ?_
        refine jr_iadd K dX11_readMeasureLine_60 ?_
        refine jr_aload_n K dX11_readMeasureLine_61 rfl ?_
        refine jr_calli0 (jrun_V (As := []) (st := [.int (((nI 1285) + ((nI 4) * p1)) + (nI 1)), .ref this]) (ci := 11) K (metX11_factAt K.hG hS this _) mtX11_factAt mvX11_factAt q1703 rfl rfl rfl (Nat.le_of_ble_eq_true rfl) (by decide) ⟨Nat.zero_le _, Nat.zero_le _⟩ dX11_readMeasureLine_62) (fun v62 => ?_)
        refine jr_calli0 (jrun_V (As := [.int (((nI 1285) + ((nI 4) * p1)) + (nI 1)), .int v62]) (st := []) (ci := 11) K (metX11_keepsAt K.hG this (((nI 1285) + ((nI 4) * p1)) + (nI 1)) v62 _) mtX11_keepsAt mvX11_keepsAt q1695 rfl rfl rfl (Nat.le_of_ble_eq_true rfl) (by decide) ⟨Nat.zero_le _, Nat.zero_le _⟩ dX11_readMeasureLine_65) (fun v65 => ?_)
        refine jr_if_ne K (tgt := 73) dX11_readMeasureLine_68 (by decide) ?_ ?_
        · exact jr_weak (hk73) ⟨rfl, rfl, trivial⟩
        · refine jr_iconst K dX11_readMeasureLine_71 (v := (nI 0)) (by decide) ?_
          exact JR.imp (fun _ h => ⟨Or.inl rfl, h⟩) (hret _ _ _ _ _ dX11_readMeasureLine_72)
    · refine jr_iconst K dX11_readMeasureLine_33 (v := (nI 0)) (by decide) ?_
      exact JR.imp (fun _ h => ⟨Or.inl rfl, h⟩) (hret _ _ _ _ _ dX11_readMeasureLine_34)
theorem metX11_readMeasureLine (hG : jG l D S0 A0) {sK : Nat → Nat} (hS : jSt S0 sK) (this : Nat) (p1 : Int32) (Qj : Int32 → JP) : Met l yX11_readMeasureLine (ws_ yX11_readMeasureLine cX11_readMeasureLine 3 (some .boolean)) (jrm 60 0 0) (va_Pc [.ref this, .int p1] (jB D S0 (JX11_readMeasureLine sK this p1 Qj))) (va_Qi Qj (fun σ t => jRep D S0.heap.size σ t.heap) (jA S0)) 0 0 (jA S0) :=
  jr_start hG (by decide) (Nat.le_of_ble_eq_true rfl) rfl fun p e s m below meth c K hr hn => wX11_readMeasureLine K _ _ sK this p1 Qj hS (fun _ _ _ _ _ d => jr_zret K hr d)
theorem wX11_readAll_42 (K : JK p l R s m args meth c D S0 A0 3 cX11_readAll "MoveNotesModel" 61) (bc bs : Nat) (sK : Nat → Nat) (this : Nat) (p1 : Int32) (Qj : Int32 → JP) (k103 : Int32 → JP) (hS : jSt S0 sK) (hret : jRetI p l e R s m args below meth c Q D S0 3 cX11_readAll Qj) (hk103 : ∀ (y2_103 : Int32), JR p l e R s m args below meth c Q D S0 3 bc bs (k103 y2_103) 103 [none, none, some (.int y2_103)] []) : ∀ (n : Nat) (x2_42 : Int32), JR p l e R s m args below meth c Q D S0 3 bc bs (jit (FX11_readAll_42 sK this p1 Qj k103) (fun _ => jbot) n x2_42) 42 [some (.ref this), some (.int p1), some (.int x2_42)] [] := by
  intro n
  induction n with
  | zero =>
    intro x2_42
    exact JR.bot
  | succ n ih42 =>
    intro x2_42
    show JR p l e R s m args below meth c Q D S0 3 bc bs (FX11_readAll_42 sK this p1 Qj k103 (jit (FX11_readAll_42 sK this p1 Qj k103) (fun _ => jbot) n) x2_42) 42 [some (.ref this), some (.int p1), some (.int x2_42)] []
    generalize jit (FX11_readAll_42 sK this p1 Qj k103) (fun _ => jbot) n = rec42 at ih42 ⊢
    unfold FX11_readAll_42
    refine jr_aload_n K dX11_readAll_42 rfl ?_
    refine jr_callv0 (jrun_V (As := []) (st := []) (ci := 11) K (metX11_letters K.hG this _) mtX11_letters mvX11_letters q1667 rfl rfl rfl (Nat.le_of_ble_eq_true rfl) (by decide) ⟨Nat.zero_le _, Nat.zero_le _⟩ dX11_readAll_43) ?_
    refine jr_iload_n K dX11_readAll_46 rfl ?_
    refine jr_iload_n K dX11_readAll_47 rfl ?_
    refine jr_join (fun (k58 : Int32 → JP) => ∀ (s1_58 : Int32), JR p l e R s m args below meth c Q D S0 3 bc bs (k58 s1_58) 58 [some (.ref this), some (.int p1), some (.int x2_42)] [.int s1_58, .int x2_42]) ?_ (fun k58 hk58 => ?_)
    · intro s1_58
      refine jr_icmp_ne K (tgt := 63) dX11_readAll_58 (by decide) ?_ ?_
      · refine jr_iload_n K dX11_readAll_63 rfl ?_
        refine jr_join (fun (k88 : JP) => JR p l e R s m args below meth c Q D S0 3 bc bs k88 88 [some (.ref this), some (.int p1), some (.int x2_42)] []) ?_ (fun k88 hk88 => ?_)
        · refine jr_aload_n K dX11_readAll_88 rfl ?_
          refine jr_callv0 (jrun_V (As := []) (st := []) (ci := 11) K (metX11_blanks K.hG this _) mtX11_blanks mvX11_blanks q1659 rfl rfl rfl (Nat.le_of_ble_eq_true rfl) (by decide) ⟨Nat.zero_le _, Nat.zero_le _⟩ dX11_readAll_89) ?_
          refine jr_aload_n K dX11_readAll_92 rfl ?_
          refine jr_getI K gf_X11_121 dX11_readAll_93 (fun v93 => ?_)
          refine jr_aload_n K dX11_readAll_96 rfl ?_
          refine jr_getI K gf_X11_124 dX11_readAll_97 (fun v97 => ?_)
          refine jr_icmp_ne K (tgt := 107) dX11_readAll_100 (by decide) ?_ ?_
          · refine jr_aload_n K dX11_readAll_107 rfl ?_
            refine jr_bipush K dX11_readAll_108 (v := (nI 59)) (by decide) ?_
            refine jr_bipush K dX11_readAll_110 (v := (nI 59)) (by decide) ?_
            refine jr_calli0 (jrun_V (As := [.int (nI 59), .int (nI 59)]) (st := []) (ci := 11) K (metX11_isAt K.hG this (nI 59) (nI 59) _) mtX11_isAt mvX11_isAt q1663 rfl rfl rfl (Nat.le_of_ble_eq_true rfl) (by decide) ⟨Nat.zero_le _, Nat.zero_le _⟩ dX11_readAll_112) (fun v112 => ?_)
            refine jr_if_ne K (tgt := 120) dX11_readAll_115 (by decide) ?_ ?_
            · refine jr_aload_n K dX11_readAll_120 rfl ?_
              refine jr_dup K dX11_readAll_121 rfl ?_
              refine jr_getI K gf_X11_121 dX11_readAll_122 (fun v122 => ?_)
              refine jr_iconst K dX11_readAll_125 (v := (nI 1)) (by decide) ?_
              refine jr_iadd K dX11_readAll_126 ?_
              refine jr_put K pf_X11_121 dX11_readAll_127 rfl rfl ?_
              refine jr_iinc K (v := (x2_42 + (nI 1))) (L' := [some (.ref this), some (.int p1), some (.int (x2_42 + (nI 1)))]) dX11_readAll_130 rfl rfl (by decide) rfl rfl ?_
              refine jr_goto K (tgt := 42) dX11_readAll_133 (by decide) ?_
              exact jr_weak (ih42 (x2_42 + (nI 1))) ⟨rfl, rfl, rfl, trivial⟩
            · refine jr_iconst K dX11_readAll_118 (v := (-1)) (by decide) ?_
              exact hret _ _ _ _ _ dX11_readAll_119
          · exact jr_weak (hk103 x2_42) ⟨rfl, trivial⟩
        refine jr_if_eq K (tgt := 78) dX11_readAll_64 (by decide) ?_ ?_
        · refine jr_aload_n K dX11_readAll_78 rfl ?_
          refine jr_iload_n K dX11_readAll_79 rfl ?_
          refine jr_calli0 (jrun_V (As := [.int x2_42]) (st := []) (ci := 11) K (metX11_readMeasureLine K.hG hS this x2_42 _) mtX11_readMeasureLine mvX11_readMeasureLine q1690 rfl rfl rfl (Nat.le_of_ble_eq_true rfl) (by decide) ⟨Nat.zero_le _, Nat.zero_le _⟩ dX11_readAll_80) (fun v80 => ?_)
          refine jr_if_ne K (tgt := 88) dX11_readAll_83 (by decide) ?_ ?_
          · exact jr_weak (hk88) ⟨rfl, rfl, rfl, trivial⟩
          · refine jr_iconst K dX11_readAll_86 (v := (-1)) (by decide) ?_
            exact hret _ _ _ _ _ dX11_readAll_87
        · refine jr_aload_n K dX11_readAll_67 rfl ?_
          refine jr_iload_n K dX11_readAll_68 rfl ?_
          refine jr_calli0 (jrun_V (As := [.int x2_42]) (st := []) (ci := 11) K (metX11_readKindLine K.hG hS this x2_42 _) mtX11_readKindLine mvX11_readKindLine q1671 rfl rfl rfl (Nat.le_of_ble_eq_true rfl) (by decide) ⟨Nat.zero_le _, Nat.zero_le _⟩ dX11_readAll_69) (fun v69 => ?_)
          refine jr_if_eq K (tgt := 86) dX11_readAll_72 (by decide) ?_ ?_
          · refine jr_iconst K dX11_readAll_86 (v := (-1)) (by decide) ?_
            exact hret _ _ _ _ _ dX11_readAll_87
          · refine jr_goto K (tgt := 88) dX11_readAll_75 (by decide) ?_
            exact jr_weak (hk88) ⟨rfl, rfl, rfl, trivial⟩
      · refine jr_iconst K dX11_readAll_61 (v := (-1)) (by decide) ?_
        exact hret _ _ _ _ _ dX11_readAll_62
    refine jr_if_eq K (tgt := 56) dX11_readAll_48 (by decide) ?_ ?_
    · refine jr_bipush K dX11_readAll_56 (v := (nI 10)) (by decide) ?_
      exact jr_weak (hk58 (nI 10)) ⟨rfl, rfl, rfl, trivial⟩
    · refine jr_bipush K dX11_readAll_51 (v := (nI 6)) (by decide) ?_
      refine jr_goto K (tgt := 58) dX11_readAll_53 (by decide) ?_
      exact jr_weak (hk58 (nI 6)) ⟨rfl, rfl, rfl, trivial⟩
theorem wX11_readAll (K : JK p l R s m args meth c D S0 A0 3 cX11_readAll "MoveNotesModel" 61) (bc bs : Nat) (sK : Nat → Nat) (this : Nat) (p1 : Int32) (Qj : Int32 → JP) (hS : jSt S0 sK) (hret : jRetI p l e R s m args below meth c Q D S0 3 cX11_readAll Qj) : JR p l e R s m args below meth c Q D S0 3 bc bs (JX11_readAll sK this p1 Qj) 0 [some (.ref this), some (.int p1), none] [] := by
  unfold JX11_readAll
  refine jr_aload_n K dX11_readAll_0 rfl ?_
  refine jr_aload_n K dX11_readAll_1 rfl ?_
  refine jr_getI K gf_X11_118 dX11_readAll_2 (fun v2 => ?_)
  refine jr_put K pf_X11_124 dX11_readAll_5 rfl rfl ?_
  refine jr_aload_n K dX11_readAll_8 rfl ?_
  refine jr_iconst K dX11_readAll_9 (v := (nI 0)) (by decide) ?_
  refine jr_put K pf_X11_118 dX11_readAll_10 rfl rfl ?_
  refine jr_aload_n K dX11_readAll_13 rfl ?_
  refine jr_iconst K dX11_readAll_14 (v := (nI 0)) (by decide) ?_
  refine jr_put K pf_X11_121 dX11_readAll_15 rfl rfl ?_
  refine jr_aload_n K dX11_readAll_18 rfl ?_
  refine jr_iconst K dX11_readAll_19 (v := (nI 0)) (by decide) ?_
  refine jr_put K pf_X11_153 dX11_readAll_20 rfl rfl ?_
  refine jr_aload_n K dX11_readAll_23 rfl ?_
  refine jr_callv0 (jrun_V (As := []) (st := []) (ci := 11) K (metX11_blanks K.hG this _) mtX11_blanks mvX11_blanks q1659 rfl rfl rfl (Nat.le_of_ble_eq_true rfl) (by decide) ⟨Nat.zero_le _, Nat.zero_le _⟩ dX11_readAll_24) ?_
  refine jr_aload_n K dX11_readAll_27 rfl ?_
  refine jr_getI K gf_X11_121 dX11_readAll_28 (fun v28 => ?_)
  refine jr_aload_n K dX11_readAll_31 rfl ?_
  refine jr_getI K gf_X11_124 dX11_readAll_32 (fun v32 => ?_)
  refine jr_icmp_ne K (tgt := 40) dX11_readAll_35 (by decide) ?_ ?_
  · refine jr_iconst K dX11_readAll_40 (v := (nI 0)) (by decide) ?_
    refine jr_istore_n K (L' := [some (.ref this), some (.int p1), some (.int (nI 0))]) dX11_readAll_41 (by decide) rfl rfl ?_
    refine jr_ex (fun n42 => ?_)
    refine jr_weak (wX11_readAll_42 K bc bs sK this p1 Qj _ hS hret ?_ n42 (nI 0)) ⟨rfl, rfl, rfl, trivial⟩
    · intro y2_103
      refine jr_iload_n K dX11_readAll_103 rfl ?_
      refine jr_iconst K dX11_readAll_104 (v := (nI 1)) (by decide) ?_
      refine jr_iadd K dX11_readAll_105 ?_
      exact hret _ _ _ _ _ dX11_readAll_106
  · refine jr_iconst K dX11_readAll_38 (v := (nI 0)) (by decide) ?_
    exact hret _ _ _ _ _ dX11_readAll_39
theorem metX11_readAll (hG : jG l D S0 A0) {sK : Nat → Nat} (hS : jSt S0 sK) (this : Nat) (p1 : Int32) (Qj : Int32 → JP) : Met l yX11_readAll (ws_ yX11_readAll cX11_readAll 3 (some .int)) (jrm 61 0 0) (va_Pc [.ref this, .int p1] (jB D S0 (JX11_readAll sK this p1 Qj))) (va_Qi Qj (fun σ t => jRep D S0.heap.size σ t.heap) (jA S0)) 0 0 (jA S0) :=
  jr_start hG (by decide) (Nat.le_of_ble_eq_true rfl) rfl fun p e s m below meth c K hr hn => wX11_readAll K _ _ sK this p1 Qj hS (fun _ _ _ _ _ d => jr_iret K hr rfl d)
theorem wX11_in (K : JK p l R s m args meth c D S0 A0 3 cX11_in "MoveNotesModel" 12) (bc bs : Nat) (p0 : Int32) (p1 : Int32) (p2 : Int32) (Qj : Int32 → JP) (hret : jRetZ p l e R s m args below meth c Q D S0 3 cX11_in Qj) : JR p l e R s m args below meth c Q D S0 3 bc bs (JX11_in p0 p1 p2 Qj) 0 [some (.int p0), some (.int p1), some (.int p2)] [] := by
  unfold JX11_in
  refine jr_iload_n K dX11_in_0 rfl ?_
  refine jr_iload_n K dX11_in_1 rfl ?_
  refine jr_join (fun (k14 : JP) => JR p l e R s m args below meth c Q D S0 3 bc bs k14 14 [none, none, none] []) ?_ (fun k14 hk14 => ?_)
  · refine jr_iconst K dX11_in_14 (v := (nI 0)) (by decide) ?_
    exact JR.imp (fun _ h => ⟨Or.inl rfl, h⟩) (hret _ _ _ _ _ dX11_in_15)
  refine jr_icmp_lt K (tgt := 14) dX11_in_2 (by decide) ?_ ?_
  · exact jr_weak (hk14) trivial
  · refine jr_iload_n K dX11_in_5 rfl ?_
    refine jr_iload_n K dX11_in_6 rfl ?_
    refine jr_icmp_gt K (tgt := 14) dX11_in_7 (by decide) ?_ ?_
    · exact jr_weak (hk14) trivial
    · refine jr_iconst K dX11_in_10 (v := (nI 1)) (by decide) ?_
      refine jr_goto K (tgt := 15) dX11_in_11 (by decide) ?_
      exact JR.imp (fun _ h => ⟨Or.inr rfl, h⟩) (hret _ _ _ _ _ dX11_in_15)
theorem metX11_in (hG : jG l D S0 A0) (p0 : Int32) (p1 : Int32) (p2 : Int32) (Qj : Int32 → JP) : Met l yX11_in (ws_ yX11_in cX11_in 3 (some .boolean)) (jrm 12 0 0) (va_Pc [.int p0, .int p1, .int p2] (jB D S0 (JX11_in p0 p1 p2 Qj))) (va_Qi Qj (fun σ t => jRep D S0.heap.size σ t.heap) (jA S0)) 0 0 (jA S0) :=
  jr_start hG (by decide) (Nat.le_of_ble_eq_true rfl) rfl fun p e s m below meth c K hr hn => wX11_in K _ _ p0 p1 p2 Qj (fun _ _ _ _ _ d => jr_zret K hr d)
theorem wX11_throwsIf (K : JK p l R s m args meth c D S0 A0 3 cX11_throwsIf "MoveNotesModel" 12) (bc bs : Nat) (this : Nat) (p1 : Int32) (p2 : Int32) (Qj : Int32 → JP) (hret : jRetZ p l e R s m args below meth c Q D S0 3 cX11_throwsIf Qj) : JR p l e R s m args below meth c Q D S0 3 bc bs (JX11_throwsIf this p1 p2 Qj) 0 [some (.ref this), some (.int p1), some (.int p2)] [] := by
  unfold JX11_throwsIf
  refine jr_iload_n K dX11_throwsIf_0 rfl ?_
  refine jr_if_eq K (tgt := 9) dX11_throwsIf_1 (by decide) ?_ ?_
  · refine jr_iload_n K dX11_throwsIf_9 rfl ?_
    exact hret _ _ _ _ _ dX11_throwsIf_10
  · refine jr_aload_n K dX11_throwsIf_4 rfl ?_
    refine jr_iload_n K dX11_throwsIf_5 rfl ?_
    refine jr_put K pf_X11_3 dX11_throwsIf_6 rfl rfl ?_
    refine jr_iload_n K dX11_throwsIf_9 rfl ?_
    exact hret _ _ _ _ _ dX11_throwsIf_10
theorem metX11_throwsIf (hG : jG l D S0 A0) (this : Nat) (p1 : Int32) (p2 : Int32) (Qj : Int32 → JP) : Met l yX11_throwsIf (ws_ yX11_throwsIf cX11_throwsIf 3 (some .boolean)) (jrm 12 0 0) (va_Pc [.ref this, .int p1, .int p2] (jB D S0 (JX11_throwsIf this p1 p2 Qj))) (va_Qi Qj (fun σ t => jRep D S0.heap.size σ t.heap) (jA S0)) 0 0 (jA S0) :=
  jr_start hG (by decide) (Nat.le_of_ble_eq_true rfl) rfl fun p e s m below meth c K hr hn => wX11_throwsIf K _ _ this p1 p2 Qj (fun _ _ _ _ _ d => jr_zret K hr d)
theorem wX11_kind_111 (K : JK p l R s m args meth c D S0 A0 5 cX11_kind "MoveNotesModel" 62) (bc bs : Nat) (this : Nat) (v7 : Int32) (v88 : Int32) (k143 : JP) (hk143 : JR p l e R s m args below meth c Q D S0 5 bc bs k143 143 [some (.ref this), none, none, none, none] []) : ∀ (n : Nat) (x4_111 : Int32), JR p l e R s m args below meth c Q D S0 5 bc bs (jit (FX11_kind_111 this v7 v88 k143) (fun _ => jbot) n x4_111) 111 [some (.ref this), none, some (.int v7), some (.int ((nI 49) + ((nI 14) * v88))), some (.int x4_111)] [] := by
  intro n
  induction n with
  | zero =>
    intro x4_111
    exact JR.bot
  | succ n ih111 =>
    intro x4_111
    show JR p l e R s m args below meth c Q D S0 5 bc bs (FX11_kind_111 this v7 v88 k143 (jit (FX11_kind_111 this v7 v88 k143) (fun _ => jbot) n) x4_111) 111 [some (.ref this), none, some (.int v7), some (.int ((nI 49) + ((nI 14) * v88))), some (.int x4_111)] []
    generalize jit (FX11_kind_111 this v7 v88 k143) (fun _ => jbot) n = rec111 at ih111 ⊢
    unfold FX11_kind_111
    refine jr_iload K dX11_kind_111 rfl ?_
    refine jr_iconst K dX11_kind_113 (v := (nI 2)) (by decide) ?_
    refine jr_iload_n K dX11_kind_114 rfl ?_
    refine jr_imul K dX11_kind_115 ?_
    refine jr_icmp_ge K (tgt := 143) dX11_kind_116 (by decide) ?_ ?_
    · exact jr_weak (hk143) ⟨rfl, trivial⟩
    · refine jr_aload_n K dX11_kind_119 rfl ?_
      refine jr_getA K gf_X11_13 dX11_kind_120 (fun v120 => ?_)
      refine jr_iload_n K dX11_kind_123 rfl ?_
      refine jr_iconst K dX11_kind_124 (v := (nI 2)) (by decide) ?_
      refine jr_iadd K dX11_kind_125 ?_
      refine jr_iload K dX11_kind_126 rfl ?_
      refine jr_iadd K dX11_kind_128 ?_
      refine jr_aload_n K dX11_kind_129 rfl ?_
      refine jr_getA K gf_X11_30 dX11_kind_130 (fun v130 => ?_)
      refine jr_iload K dX11_kind_133 rfl ?_
      refine jr_iald K dX11_kind_135 (fun v135 => ?_)
      refine jr_iast K dX11_kind_136 ?_
      refine jr_iinc K (v := (x4_111 + (nI 1))) (L' := [some (.ref this), none, some (.int v7), some (.int ((nI 49) + ((nI 14) * v88))), some (.int (x4_111 + (nI 1)))]) dX11_kind_137 rfl rfl (by decide) rfl rfl ?_
      refine jr_goto K (tgt := 111) dX11_kind_140 (by decide) ?_
      exact jr_weak (ih111 (x4_111 + (nI 1))) ⟨rfl, rfl, rfl, rfl, trivial⟩
theorem wX11_kind (K : JK p l R s m args meth c D S0 A0 5 cX11_kind "MoveNotesModel" 62) (bc bs : Nat) (sK : Nat → Nat) (this : Nat) (p1 : Int32) (Qj : Int32 → JP) (hS : jSt S0 sK) (hret : jRetI p l e R s m args below meth c Q D S0 5 cX11_kind Qj) : JR p l e R s m args below meth c Q D S0 5 bc bs (JX11_kind sK this p1 Qj) 0 [some (.ref this), some (.int p1), none, none, none] [] := by
  unfold JX11_kind
  refine jr_aload_n K dX11_kind_0 rfl ?_
  refine jr_iconst K dX11_kind_1 (v := (nI 0)) (by decide) ?_
  refine jr_put K pf_X11_3 dX11_kind_2 rfl rfl ?_
  refine jr_aload_n K dX11_kind_5 rfl ?_
  refine jr_iconst K dX11_kind_6 (v := (nI 1)) (by decide) ?_
  refine jr_calli0 (jrun_V (As := [.int (nI 1)]) (st := []) (ci := 11) K (metX11_readAll K.hG hS this (nI 1) _) mtX11_readAll mvX11_readAll q1655 rfl rfl rfl (Nat.le_of_ble_eq_true rfl) (by decide) ⟨Nat.zero_le _, Nat.zero_le _⟩ dX11_kind_7) (fun v7 => ?_)
  refine jr_istore_n K (L' := [some (.ref this), some (.int p1), some (.int v7), none, none]) dX11_kind_10 (by decide) rfl rfl ?_
  refine jr_aload_n K dX11_kind_11 rfl ?_
  refine jr_iload_n K dX11_kind_12 rfl ?_
  refine jr_join (fun (k24 : Int32 → JP) => ∀ (s1_24 : Int32), JR p l e R s m args below meth c Q D S0 5 bc bs (k24 s1_24) 24 [some (.ref this), some (.int p1), some (.int v7), none, none] [.int s1_24, .ref this]) ?_ (fun k24 hk24 => ?_)
  · intro s1_24
    refine jr_put K pf_X11_24 dX11_kind_24 rfl rfl ?_
    refine jr_aload_n K dX11_kind_27 rfl ?_
    refine jr_iload_n K dX11_kind_28 rfl ?_
    refine jr_join (fun (k47 : Int32 → JP) => ∀ (s1_47 : Int32), JR p l e R s m args below meth c Q D S0 5 bc bs (k47 s1_47) 47 [some (.ref this), some (.int p1), some (.int v7), none, none] [.int s1_47, .ref this]) ?_ (fun k47 hk47 => ?_)
    · intro s1_47
      refine jr_iconst K dX11_kind_47 (v := (nI 1)) (by decide) ?_
      refine jr_calli0 (jrun_V (As := [.int s1_47, .int (nI 1)]) (st := []) (ci := 11) K (metX11_throwsIf K.hG this s1_47 (nI 1) _) mtX11_throwsIf mvX11_throwsIf q1748 rfl rfl rfl (Nat.le_of_ble_eq_true rfl) (by decide) ⟨Nat.zero_le _, Nat.zero_le _⟩ dX11_kind_48) (fun v48 => ?_)
      refine jr_if_ne K (tgt := 77) dX11_kind_51 (by decide) ?_ ?_
      · refine jr_iconst K dX11_kind_77 (v := (nI 0)) (by decide) ?_
        exact hret _ _ _ _ _ dX11_kind_78
      · refine jr_aload_n K dX11_kind_54 rfl ?_
        refine jr_aload_n K dX11_kind_55 rfl ?_
        refine jr_getA K gf_X11_13 dX11_kind_56 (fun v56 => ?_)
        refine jr_iconst K dX11_kind_59 (v := (nI 0)) (by decide) ?_
        refine jr_iald K dX11_kind_60 (fun v60 => ?_)
        refine jr_iconst K dX11_kind_61 (v := (nI 5)) (by decide) ?_
        refine jr_join (fun (k70 : Int32 → JP) => ∀ (s1_70 : Int32), JR p l e R s m args below meth c Q D S0 5 bc bs (k70 s1_70) 70 [some (.ref this), some (.int p1), some (.int v7), none, none] [.int s1_70, .ref this]) ?_ (fun k70 hk70 => ?_)
        · intro s1_70
          refine jr_iconst K dX11_kind_70 (v := (nI 2)) (by decide) ?_
          refine jr_calli0 (jrun_V (As := [.int s1_70, .int (nI 2)]) (st := []) (ci := 11) K (metX11_throwsIf K.hG this s1_70 (nI 2) _) mtX11_throwsIf mvX11_throwsIf q1748 rfl rfl rfl (Nat.le_of_ble_eq_true rfl) (by decide) ⟨Nat.zero_le _, Nat.zero_le _⟩ dX11_kind_71) (fun v71 => ?_)
          refine jr_if_eq K (tgt := 79) dX11_kind_74 (by decide) ?_ ?_
          · refine jr_bipush K dX11_kind_79 (v := (nI 49)) (by decide) ?_
            refine jr_bipush K dX11_kind_81 (v := (nI 14)) (by decide) ?_
            refine jr_aload_n K dX11_kind_83 rfl ?_
            refine jr_getA K gf_X11_13 dX11_kind_84 (fun v84 => ?_)
            refine jr_iconst K dX11_kind_87 (v := (nI 0)) (by decide) ?_
            refine jr_iald K dX11_kind_88 (fun v88 => ?_)
            refine jr_imul K dX11_kind_89 ?_
            refine jr_iadd K dX11_kind_90 ?_
            refine jr_istore_n K (L' := [some (.ref this), some (.int p1), some (.int v7), some (.int ((nI 49) + ((nI 14) * v88))), none]) dX11_kind_91 (by decide) rfl rfl ?_
            refine jr_aload_n K dX11_kind_92 rfl ?_
            refine jr_getA K gf_X11_13 dX11_kind_93 (fun v93 => ?_)
            refine jr_iload_n K dX11_kind_96 rfl ?_
            refine jr_iload_n K dX11_kind_97 rfl ?_
            refine jr_iast K dX11_kind_98 ?_
            refine jr_aload_n K dX11_kind_99 rfl ?_
            refine jr_getA K gf_X11_13 dX11_kind_100 (fun v100 => ?_)
            refine jr_iload_n K dX11_kind_103 rfl ?_
            refine jr_iconst K dX11_kind_104 (v := (nI 1)) (by decide) ?_
            refine jr_iadd K dX11_kind_105 ?_
            refine jr_iload_n K dX11_kind_106 rfl ?_
            refine jr_iast K dX11_kind_107 ?_
            refine jr_iconst K dX11_kind_108 (v := (nI 0)) (by decide) ?_
            refine jr_istore K (L' := [some (.ref this), some (.int p1), some (.int v7), some (.int ((nI 49) + ((nI 14) * v88))), some (.int (nI 0))]) dX11_kind_109 (by decide) rfl rfl ?_
            refine jr_ex (fun n111 => ?_)
            refine jr_weak (wX11_kind_111 K bc bs this v7 v88 _ ?_ n111 (nI 0)) ⟨rfl, rfl, rfl, rfl, trivial⟩
            · refine jr_aload_n K dX11_kind_143 rfl ?_
              refine jr_getA K gf_X11_13 dX11_kind_144 (fun v144 => ?_)
              refine jr_iconst K dX11_kind_147 (v := (nI 0)) (by decide) ?_
              refine jr_dup2 K dX11_kind_148 rfl rfl ?_
              refine jr_iald K dX11_kind_149 (fun v149 => ?_)
              refine jr_iconst K dX11_kind_150 (v := (nI 1)) (by decide) ?_
              refine jr_iadd K dX11_kind_151 ?_
              refine jr_iast K dX11_kind_152 ?_
              refine jr_aload_n K dX11_kind_153 rfl ?_
              refine jr_getA K gf_X11_13 dX11_kind_154 (fun v154 => ?_)
              refine jr_iconst K dX11_kind_157 (v := (nI 0)) (by decide) ?_
              refine jr_iald K dX11_kind_158 (fun v158 => ?_)
              refine jr_iconst K dX11_kind_159 (v := (nI 1)) (by decide) ?_
              refine jr_isub K dX11_kind_160 ?_
              exact hret _ _ _ _ _ dX11_kind_161
          · refine jr_iconst K dX11_kind_77 (v := (nI 0)) (by decide) ?_
            exact hret _ _ _ _ _ dX11_kind_78
        refine jr_icmp_ne K (tgt := 69) dX11_kind_62 (by decide) ?_ ?_
        · refine jr_iconst K dX11_kind_69 (v := (nI 0)) (by decide) ?_
          exact jr_weak (hk70 (nI 0)) ⟨rfl, rfl, rfl, trivial⟩
        · refine jr_iconst K dX11_kind_65 (v := (nI 1)) (by decide) ?_
          refine jr_goto K (tgt := 70) dX11_kind_66 (by decide) ?_
          exact jr_weak (hk70 (nI 1)) ⟨rfl, rfl, rfl, trivial⟩
    refine jr_join (fun (k42 : JP) => JR p l e R s m args below meth c Q D S0 5 bc bs k42 42 [some (.ref this), some (.int p1), some (.int v7), none, none] [.ref this]) ?_ (fun k42 hk42 => ?_)
    · refine jr_iconst K dX11_kind_42 (v := (nI 1)) (by decide) ?_
      refine jr_goto K (tgt := 47) dX11_kind_43 (by decide) ?_
      exact jr_weak (hk47 (nI 1)) ⟨rfl, rfl, rfl, trivial⟩
    refine jr_if_lt K (tgt := 42) dX11_kind_29 (by decide) ?_ ?_
    · exact jr_weak (hk42) ⟨rfl, rfl, rfl, trivial⟩
    · refine jr_iload_n K dX11_kind_32 rfl ?_
      refine jr_iconst K dX11_kind_33 (v := (nI 0)) (by decide) ?_
      refine jr_bipush K dX11_kind_34 (v := (nI 20)) (by decide) ?_
      refine jr_calli0 (jrun_S (As := [.int p1, .int (nI 0), .int (nI 20)]) (st := [.ref this]) K (metX11_in K.hG p1 (nI 0) (nI 20) _) mtX11_in q1746 q1745 rfl rfl (Nat.le_of_ble_eq_true rfl) (by decide) ⟨Nat.zero_le _, Nat.zero_le _⟩ dX11_kind_36) (fun v36 => ?_)
      refine jr_if_ne K (tgt := 46) dX11_kind_39 (by decide) ?_ ?_
      · refine jr_iconst K dX11_kind_46 (v := (nI 0)) (by decide) ?_
        exact jr_weak (hk47 (nI 0)) ⟨rfl, rfl, rfl, trivial⟩
      · exact jr_weak (hk42) ⟨rfl, rfl, rfl, trivial⟩
  refine jr_if_ge K (tgt := 23) dX11_kind_13 (by decide) ?_ ?_
  · refine jr_iconst K dX11_kind_23 (v := (-1)) (by decide) ?_
    exact jr_weak (hk24 (-1)) ⟨rfl, rfl, rfl, trivial⟩
  · refine jr_aload_n K dX11_kind_16 rfl ?_
    refine jr_getI K gf_X11_130 dX11_kind_17 (fun v17 => ?_)
    refine jr_goto K (tgt := 24) dX11_kind_20 (by decide) ?_
    exact jr_weak (hk24 v17) ⟨rfl, rfl, rfl, trivial⟩
theorem metX11_kind (hG : jG l D S0 A0) {sK : Nat → Nat} (hS : jSt S0 sK) (this : Nat) (p1 : Int32) (Qj : Int32 → JP) : Met l yX11_kind (ws_ yX11_kind cX11_kind 5 (some .int)) (jrm 62 0 0) (va_Pc [.ref this, .int p1] (jB D S0 (JX11_kind sK this p1 Qj))) (va_Qi Qj (fun σ t => jRep D S0.heap.size σ t.heap) (jA S0)) 0 0 (jA S0) :=
  jr_start hG (by decide) (Nat.le_of_ble_eq_true rfl) rfl fun p e s m below meth c K hr hn => wX11_kind K _ _ sK this p1 Qj hS (fun _ _ _ _ _ d => jr_iret K hr rfl d)
theorem wX11_thrown (K : JK p l R s m args meth c D S0 A0 1 cX11_thrown "MoveNotesModel" 12) (bc bs : Nat) (this : Nat) (Qj : Int32 → JP) (hret : jRetI p l e R s m args below meth c Q D S0 1 cX11_thrown Qj) : JR p l e R s m args below meth c Q D S0 1 bc bs (JX11_thrown this Qj) 0 [some (.ref this)] [] := by
  unfold JX11_thrown
  refine jr_aload_n K dX11_thrown_0 rfl ?_
  refine jr_getI K gf_X11_3 dX11_thrown_1 (fun v1 => ?_)
  exact hret _ _ _ _ _ dX11_thrown_4
theorem metX11_thrown (hG : jG l D S0 A0) (this : Nat) (Qj : Int32 → JP) : Met l yX11_thrown (ws_ yX11_thrown cX11_thrown 1 (some .int)) (jrm 12 0 0) (va_Pc [.ref this] (jB D S0 (JX11_thrown this Qj))) (va_Qi Qj (fun σ t => jRep D S0.heap.size σ t.heap) (jA S0)) 0 0 (jA S0) :=
  jr_start hG (by decide) (Nat.le_of_ble_eq_true rfl) rfl fun p e s m below meth c K hr hn => wX11_thrown K _ _ this Qj (fun _ _ _ _ _ d => jr_iret K hr rfl d)
theorem wX11_measure_57 (K : JK p l R s m args meth c D S0 A0 3 cX11_measure "MoveNotesModel" 62) (bc bs : Nat) (this : Nat) (v7 : Int32) (k90 : JP) (hk90 : JR p l e R s m args below meth c Q D S0 3 bc bs k90 90 [some (.ref this), some (.int v7), none] []) : ∀ (n : Nat) (x2_57 : Int32), JR p l e R s m args below meth c Q D S0 3 bc bs (jit (FX11_measure_57 this k90) (fun _ => jbot) n x2_57) 57 [some (.ref this), some (.int v7), some (.int x2_57)] [] := by
  intro n
  induction n with
  | zero =>
    intro x2_57
    exact JR.bot
  | succ n ih57 =>
    intro x2_57
    show JR p l e R s m args below meth c Q D S0 3 bc bs (FX11_measure_57 this k90 (jit (FX11_measure_57 this k90) (fun _ => jbot) n) x2_57) 57 [some (.ref this), some (.int v7), some (.int x2_57)] []
    generalize jit (FX11_measure_57 this k90) (fun _ => jbot) n = rec57 at ih57 ⊢
    unfold FX11_measure_57
    refine jr_iload_n K dX11_measure_57 rfl ?_
    refine jr_sipush K dX11_measure_58 (v := (nI 841)) (by decide) ?_
    refine jr_icmp_ge K (tgt := 90) dX11_measure_61 (by decide) ?_ ?_
    · exact jr_weak (hk90) ⟨rfl, rfl, trivial⟩
    · refine jr_aload_n K dX11_measure_64 rfl ?_
      refine jr_getA K gf_X11_13 dX11_measure_65 (fun v65 => ?_)
      refine jr_sipush K dX11_measure_68 (v := (nI 443)) (by decide) ?_
      refine jr_iload_n K dX11_measure_71 rfl ?_
      refine jr_iadd K dX11_measure_72 ?_
      refine jr_aload_n K dX11_measure_73 rfl ?_
      refine jr_getA K gf_X11_13 dX11_measure_74 (fun v74 => ?_)
      refine jr_sipush K dX11_measure_77 (v := (nI 1284)) (by decide) ?_
      refine jr_iload_n K dX11_measure_80 rfl ?_
      refine jr_iadd K dX11_measure_81 ?_
      refine jr_iald K dX11_measure_82 (fun v82 => ?_)
      refine jr_iast K dX11_measure_83 ?_
      refine jr_iinc K (v := (x2_57 + (nI 1))) (L' := [some (.ref this), some (.int v7), some (.int (x2_57 + (nI 1)))]) dX11_measure_84 rfl rfl (by decide) rfl rfl ?_
      refine jr_goto K (tgt := 57) dX11_measure_87 (by decide) ?_
      exact jr_weak (ih57 (x2_57 + (nI 1))) ⟨rfl, rfl, rfl, trivial⟩
theorem wX11_measure (K : JK p l R s m args meth c D S0 A0 3 cX11_measure "MoveNotesModel" 62) (bc bs : Nat) (sK : Nat → Nat) (this : Nat) (Qj : Int32 → JP) (hS : jSt S0 sK) (hret : jRetI p l e R s m args below meth c Q D S0 3 cX11_measure Qj) : JR p l e R s m args below meth c Q D S0 3 bc bs (JX11_measure sK this Qj) 0 [some (.ref this), none, none] [] := by
  unfold JX11_measure
  refine jr_aload_n K dX11_measure_0 rfl ?_
  refine jr_iconst K dX11_measure_1 (v := (nI 0)) (by decide) ?_
  refine jr_put K pf_X11_3 dX11_measure_2 rfl rfl ?_
  refine jr_aload_n K dX11_measure_5 rfl ?_
  refine jr_iconst K dX11_measure_6 (v := (nI 0)) (by decide) ?_
  refine jr_calli0 (jrun_V (As := [.int (nI 0)]) (st := []) (ci := 11) K (metX11_readAll K.hG hS this (nI 0) _) mtX11_readAll mvX11_readAll q1655 rfl rfl rfl (Nat.le_of_ble_eq_true rfl) (by decide) ⟨Nat.zero_le _, Nat.zero_le _⟩ dX11_measure_7) (fun v7 => ?_)
  refine jr_istore_n K (L' := [some (.ref this), some (.int v7), none]) dX11_measure_10 (by decide) rfl rfl ?_
  refine jr_aload_n K dX11_measure_11 rfl ?_
  refine jr_iload_n K dX11_measure_12 rfl ?_
  refine jr_join (fun (k24 : Int32 → JP) => ∀ (s1_24 : Int32), JR p l e R s m args below meth c Q D S0 3 bc bs (k24 s1_24) 24 [some (.ref this), some (.int v7), none] [.int s1_24, .ref this]) ?_ (fun k24 hk24 => ?_)
  · intro s1_24
    refine jr_put K pf_X11_24 dX11_measure_24 rfl rfl ?_
    refine jr_aload_n K dX11_measure_27 rfl ?_
    refine jr_iload_n K dX11_measure_28 rfl ?_
    refine jr_join (fun (k37 : Int32 → JP) => ∀ (s1_37 : Int32), JR p l e R s m args below meth c Q D S0 3 bc bs (k37 s1_37) 37 [some (.ref this), some (.int v7), none] [.int s1_37, .ref this]) ?_ (fun k37 hk37 => ?_)
    · intro s1_37
      refine jr_iconst K dX11_measure_37 (v := (nI 1)) (by decide) ?_
      refine jr_calli0 (jrun_V (As := [.int s1_37, .int (nI 1)]) (st := []) (ci := 11) K (metX11_throwsIf K.hG this s1_37 (nI 1) _) mtX11_throwsIf mvX11_throwsIf q1748 rfl rfl rfl (Nat.le_of_ble_eq_true rfl) (by decide) ⟨Nat.zero_le _, Nat.zero_le _⟩ dX11_measure_38) (fun v38 => ?_)
      refine jr_if_eq K (tgt := 46) dX11_measure_41 (by decide) ?_ ?_
      · refine jr_aload_n K dX11_measure_46 rfl ?_
        refine jr_getA K gf_X11_13 dX11_measure_47 (fun v47 => ?_)
        refine jr_sipush K dX11_measure_50 (v := (nI 1284)) (by decide) ?_
        refine jr_iload_n K dX11_measure_53 rfl ?_
        refine jr_iast K dX11_measure_54 ?_
        refine jr_iconst K dX11_measure_55 (v := (nI 0)) (by decide) ?_
        refine jr_istore_n K (L' := [some (.ref this), some (.int v7), some (.int (nI 0))]) dX11_measure_56 (by decide) rfl rfl ?_
        refine jr_ex (fun n57 => ?_)
        refine jr_weak (wX11_measure_57 K bc bs this v7 _ ?_ n57 (nI 0)) ⟨rfl, rfl, rfl, trivial⟩
        · refine jr_aload_n K dX11_measure_90 rfl ?_
          refine jr_getA K gf_X11_13 dX11_measure_91 (fun v91 => ?_)
          refine jr_iconst K dX11_measure_94 (v := (nI 4)) (by decide) ?_
          refine jr_iconst K dX11_measure_95 (v := (nI 1)) (by decide) ?_
          refine jr_iast K dX11_measure_96 ?_
          refine jr_iload_n K dX11_measure_97 rfl ?_
          exact hret _ _ _ _ _ dX11_measure_98
      · refine jr_iconst K dX11_measure_44 (v := (nI 0)) (by decide) ?_
        exact hret _ _ _ _ _ dX11_measure_45
    refine jr_if_ge K (tgt := 36) dX11_measure_29 (by decide) ?_ ?_
    · refine jr_iconst K dX11_measure_36 (v := (nI 0)) (by decide) ?_
      exact jr_weak (hk37 (nI 0)) ⟨rfl, rfl, trivial⟩
    · refine jr_iconst K dX11_measure_32 (v := (nI 1)) (by decide) ?_
      refine jr_goto K (tgt := 37) dX11_measure_33 (by decide) ?_
      exact jr_weak (hk37 (nI 1)) ⟨rfl, rfl, trivial⟩
  refine jr_if_ge K (tgt := 23) dX11_measure_13 (by decide) ?_ ?_
  · refine jr_iconst K dX11_measure_23 (v := (-1)) (by decide) ?_
    exact jr_weak (hk24 (-1)) ⟨rfl, rfl, trivial⟩
  · refine jr_aload_n K dX11_measure_16 rfl ?_
    refine jr_getI K gf_X11_130 dX11_measure_17 (fun v17 => ?_)
    refine jr_goto K (tgt := 24) dX11_measure_20 (by decide) ?_
    exact jr_weak (hk24 v17) ⟨rfl, rfl, trivial⟩
theorem metX11_measure (hG : jG l D S0 A0) {sK : Nat → Nat} (hS : jSt S0 sK) (this : Nat) (Qj : Int32 → JP) : Met l yX11_measure (ws_ yX11_measure cX11_measure 3 (some .int)) (jrm 62 0 0) (va_Pc [.ref this] (jB D S0 (JX11_measure sK this Qj))) (va_Qi Qj (fun σ t => jRep D S0.heap.size σ t.heap) (jA S0)) 0 0 (jA S0) :=
  jr_start hG (by decide) (Nat.le_of_ble_eq_true rfl) rfl fun p e s m below meth c K hr hn => wX11_measure K _ _ sK this Qj hS (fun _ _ _ _ _ d => jr_iret K hr rfl d)
theorem wX11_fault (K : JK p l R s m args meth c D S0 A0 1 cX11_fault "MoveNotesModel" 12) (bc bs : Nat) (this : Nat) (Qj : Int32 → JP) (hret : jRetI p l e R s m args below meth c Q D S0 1 cX11_fault Qj) : JR p l e R s m args below meth c Q D S0 1 bc bs (JX11_fault this Qj) 0 [some (.ref this)] [] := by
  unfold JX11_fault
  refine jr_aload_n K dX11_fault_0 rfl ?_
  refine jr_iconst K dX11_fault_1 (v := (nI 0)) (by decide) ?_
  refine jr_put K pf_X11_3 dX11_fault_2 rfl rfl ?_
  refine jr_aload_n K dX11_fault_5 rfl ?_
  refine jr_getI K gf_X11_24 dX11_fault_6 (fun v6 => ?_)
  exact hret _ _ _ _ _ dX11_fault_9
theorem metX11_fault (hG : jG l D S0 A0) (this : Nat) (Qj : Int32 → JP) : Met l yX11_fault (ws_ yX11_fault cX11_fault 1 (some .int)) (jrm 12 0 0) (va_Pc [.ref this] (jB D S0 (JX11_fault this Qj))) (va_Qi Qj (fun σ t => jRep D S0.heap.size σ t.heap) (jA S0)) 0 0 (jA S0) :=
  jr_start hG (by decide) (Nat.le_of_ble_eq_true rfl) rfl fun p e s m below meth c K hr hn => wX11_fault K _ _ this Qj (fun _ _ _ _ _ d => jr_iret K hr rfl d)
theorem wX11_noSquare (K : JK p l R s m args meth c D S0 A0 1 cX11_noSquare "MoveNotesModel" 13) (bc bs : Nat) (p0 : Int32) (Qj : Int32 → JP) (hret : jRetZ p l e R s m args below meth c Q D S0 1 cX11_noSquare Qj) : JR p l e R s m args below meth c Q D S0 1 bc bs (JX11_noSquare p0 Qj) 0 [some (.int p0)] [] := by
  unfold JX11_noSquare
  refine jr_iload_n K dX11_noSquare_0 rfl ?_
  refine jr_iconst K dX11_noSquare_1 (v := (nI 0)) (by decide) ?_
  refine jr_bipush K dX11_noSquare_2 (v := (nI 35)) (by decide) ?_
  refine jr_calli0 (jrun_S (As := [.int p0, .int (nI 0), .int (nI 35)]) (st := []) K (metX11_in K.hG p0 (nI 0) (nI 35) _) mtX11_in q1746 q1745 rfl rfl (Nat.le_of_ble_eq_true rfl) (by decide) ⟨Nat.zero_le _, Nat.zero_le _⟩ dX11_noSquare_4) (fun v4 => ?_)
  refine jr_if_ne K (tgt := 14) dX11_noSquare_7 (by decide) ?_ ?_
  · refine jr_iconst K dX11_noSquare_14 (v := (nI 0)) (by decide) ?_
    exact JR.imp (fun _ h => ⟨Or.inl rfl, h⟩) (hret _ _ _ _ _ dX11_noSquare_15)
  · refine jr_iconst K dX11_noSquare_10 (v := (nI 1)) (by decide) ?_
    refine jr_goto K (tgt := 15) dX11_noSquare_11 (by decide) ?_
    exact JR.imp (fun _ h => ⟨Or.inr rfl, h⟩) (hret _ _ _ _ _ dX11_noSquare_15)
theorem metX11_noSquare (hG : jG l D S0 A0) (p0 : Int32) (Qj : Int32 → JP) : Met l yX11_noSquare (ws_ yX11_noSquare cX11_noSquare 1 (some .boolean)) (jrm 13 0 0) (va_Pc [.int p0] (jB D S0 (JX11_noSquare p0 Qj))) (va_Qi Qj (fun σ t => jRep D S0.heap.size σ t.heap) (jA S0)) 0 0 (jA S0) :=
  jr_start hG (by decide) (Nat.le_of_ble_eq_true rfl) rfl fun p e s m below meth c K hr hn => wX11_noSquare K _ _ p0 Qj (fun _ _ _ _ _ d => jr_zret K hr d)
theorem wX11_none (K : JK p l R s m args meth c D S0 A0 3 cX11_none "MoveNotesModel" 13) (bc bs : Nat) (this : Nat) (p1 : Int32) (p2 : Int32) (Qj : Int32 → JP) (hret : jRetZ p l e R s m args below meth c Q D S0 3 cX11_none Qj) : JR p l e R s m args below meth c Q D S0 3 bc bs (JX11_none this p1 p2 Qj) 0 [some (.ref this), some (.int p1), some (.int p2)] [] := by
  unfold JX11_none
  refine jr_iload_n K dX11_none_0 rfl ?_
  refine jr_iconst K dX11_none_1 (v := (nI 0)) (by decide) ?_
  refine jr_aload_n K dX11_none_2 rfl ?_
  refine jr_getA K gf_X11_13 dX11_none_3 (fun v3 => ?_)
  refine jr_iload_n K dX11_none_6 rfl ?_
  refine jr_iald K dX11_none_7 (fun v7 => ?_)
  refine jr_iconst K dX11_none_8 (v := (nI 1)) (by decide) ?_
  refine jr_isub K dX11_none_9 ?_
  refine jr_calli0 (jrun_S (As := [.int p1, .int (nI 0), .int (v7 - (nI 1))]) (st := []) K (metX11_in K.hG p1 (nI 0) (v7 - (nI 1)) _) mtX11_in q1746 q1745 rfl rfl (Nat.le_of_ble_eq_true rfl) (by decide) ⟨Nat.zero_le _, Nat.zero_le _⟩ dX11_none_10) (fun v10 => ?_)
  refine jr_if_ne K (tgt := 20) dX11_none_13 (by decide) ?_ ?_
  · refine jr_iconst K dX11_none_20 (v := (nI 0)) (by decide) ?_
    exact JR.imp (fun _ h => ⟨Or.inl rfl, h⟩) (hret _ _ _ _ _ dX11_none_21)
  · refine jr_iconst K dX11_none_16 (v := (nI 1)) (by decide) ?_
    refine jr_goto K (tgt := 21) dX11_none_17 (by decide) ?_
    exact JR.imp (fun _ h => ⟨Or.inr rfl, h⟩) (hret _ _ _ _ _ dX11_none_21)
theorem metX11_none (hG : jG l D S0 A0) (this : Nat) (p1 : Int32) (p2 : Int32) (Qj : Int32 → JP) : Met l yX11_none (ws_ yX11_none cX11_none 3 (some .boolean)) (jrm 13 0 0) (va_Pc [.ref this, .int p1, .int p2] (jB D S0 (JX11_none this p1 p2 Qj))) (va_Qi Qj (fun σ t => jRep D S0.heap.size σ t.heap) (jA S0)) 0 0 (jA S0) :=
  jr_start hG (by decide) (Nat.le_of_ble_eq_true rfl) rfl fun p e s m below meth c K hr hn => wX11_none K _ _ this p1 p2 Qj (fun _ _ _ _ _ d => jr_zret K hr d)
theorem wX11_noKind (K : JK p l R s m args meth c D S0 A0 2 cX11_noKind "MoveNotesModel" 14) (bc bs : Nat) (this : Nat) (p1 : Int32) (Qj : Int32 → JP) (hret : jRetZ p l e R s m args below meth c Q D S0 2 cX11_noKind Qj) : JR p l e R s m args below meth c Q D S0 2 bc bs (JX11_noKind this p1 Qj) 0 [some (.ref this), some (.int p1)] [] := by
  unfold JX11_noKind
  refine jr_aload_n K dX11_noKind_0 rfl ?_
  refine jr_iload_n K dX11_noKind_1 rfl ?_
  refine jr_iconst K dX11_noKind_2 (v := (nI 0)) (by decide) ?_
  refine jr_calli0 (jrun_V (As := [.int p1, .int (nI 0)]) (st := []) (ci := 11) K (metX11_none K.hG this p1 (nI 0) _) mtX11_none mvX11_none q1767 rfl rfl rfl (Nat.le_of_ble_eq_true rfl) (by decide) ⟨Nat.zero_le _, Nat.zero_le _⟩ dX11_noKind_3) (fun v3 => ?_)
  exact hret _ _ _ _ _ dX11_noKind_6
theorem metX11_noKind (hG : jG l D S0 A0) (this : Nat) (p1 : Int32) (Qj : Int32 → JP) : Met l yX11_noKind (ws_ yX11_noKind cX11_noKind 2 (some .boolean)) (jrm 14 0 0) (va_Pc [.ref this, .int p1] (jB D S0 (JX11_noKind this p1 Qj))) (va_Qi Qj (fun σ t => jRep D S0.heap.size σ t.heap) (jA S0)) 0 0 (jA S0) :=
  jr_start hG (by decide) (Nat.le_of_ble_eq_true rfl) rfl fun p e s m below meth c K hr hn => wX11_noKind K _ _ this p1 Qj (fun _ _ _ _ _ d => jr_zret K hr d)
theorem wX11_man (K : JK p l R s m args meth c D S0 A0 2 cX11_man "MoveNotesModel" 12) (bc bs : Nat) (p0 : Int32) (p1 : Int32) (Qj : Int32 → JP) (hret : jRetI p l e R s m args below meth c Q D S0 2 cX11_man Qj) : JR p l e R s m args below meth c Q D S0 2 bc bs (JX11_man p0 p1 Qj) 0 [some (.int p0), some (.int p1)] [] := by
  unfold JX11_man
  refine jr_iload_n K dX11_man_0 rfl ?_
  refine jr_if_ge K (tgt := 8) dX11_man_1 (by decide) ?_ ?_
  · refine jr_iconst K dX11_man_8 (v := (nI 2)) (by decide) ?_
    refine jr_iload_n K dX11_man_9 rfl ?_
    refine jr_imul K dX11_man_10 ?_
    refine jr_iload_n K dX11_man_11 rfl ?_
    refine jr_iadd K dX11_man_12 ?_
    exact hret _ _ _ _ _ dX11_man_13
  · refine jr_iconst K dX11_man_4 (v := (-1)) (by decide) ?_
    refine jr_goto K (tgt := 13) dX11_man_5 (by decide) ?_
    exact hret _ _ _ _ _ dX11_man_13
theorem metX11_man (hG : jG l D S0 A0) (p0 : Int32) (p1 : Int32) (Qj : Int32 → JP) : Met l yX11_man (ws_ yX11_man cX11_man 2 (some .int)) (jrm 12 0 0) (va_Pc [.int p0, .int p1] (jB D S0 (JX11_man p0 p1 Qj))) (va_Qi Qj (fun σ t => jRep D S0.heap.size σ t.heap) (jA S0)) 0 0 (jA S0) :=
  jr_start hG (by decide) (Nat.le_of_ble_eq_true rfl) rfl fun p e s m below meth c K hr hn => wX11_man K _ _ p0 p1 Qj (fun _ _ _ _ _ d => jr_iret K hr rfl d)
theorem wX11_put (K : JK p l R s m args meth c D S0 A0 4 cX11_put "MoveNotesModel" 15) (bc bs : Nat) (this : Nat) (p1 : Int32) (p2 : Int32) (p3 : Int32) (Qj : JP) (hret : jRetV p l e R s m args below meth c Q D S0 4 cX11_put Qj) : JR p l e R s m args below meth c Q D S0 4 bc bs (JX11_put this p1 p2 p3 Qj) 0 [some (.ref this), some (.int p1), some (.int p2), some (.int p3)] [] := by
  unfold JX11_put
  refine jr_aload_n K dX11_put_0 rfl ?_
  refine jr_iconst K dX11_put_1 (v := (nI 0)) (by decide) ?_
  refine jr_put K pf_X11_3 dX11_put_2 rfl rfl ?_
  refine jr_aload_n K dX11_put_5 rfl ?_
  refine jr_iload_n K dX11_put_6 rfl ?_
  refine jr_calli0 (jrun_S (As := [.int p1]) (st := [.ref this]) K (metX11_noSquare K.hG p1 _) mtX11_noSquare q1761 q1760 rfl rfl (Nat.le_of_ble_eq_true rfl) (by decide) ⟨Nat.zero_le _, Nat.zero_le _⟩ dX11_put_7) (fun v7 => ?_)
  refine jr_join (fun (k31 : Int32 → JP) => ∀ (s1_31 : Int32), JR p l e R s m args below meth c Q D S0 4 bc bs (k31 s1_31) 31 [some (.ref this), some (.int p1), some (.int p2), some (.int p3)] [.int s1_31, .ref this]) ?_ (fun k31 hk31 => ?_)
  · intro s1_31
    refine jr_iconst K dX11_put_31 (v := (nI 1)) (by decide) ?_
    refine jr_calli0 (jrun_V (As := [.int s1_31, .int (nI 1)]) (st := []) (ci := 11) K (metX11_throwsIf K.hG this s1_31 (nI 1) _) mtX11_throwsIf mvX11_throwsIf q1748 rfl rfl rfl (Nat.le_of_ble_eq_true rfl) (by decide) ⟨Nat.zero_le _, Nat.zero_le _⟩ dX11_put_32) (fun v32 => ?_)
    refine jr_if_ne K (tgt := 65) dX11_put_35 (by decide) ?_ ?_
    · exact hret _ _ _ _ dX11_put_65
    · refine jr_aload_n K dX11_put_38 rfl ?_
      refine jr_iload_n K dX11_put_39 rfl ?_
      refine jr_iconst K dX11_put_40 (v := (-1)) (by decide) ?_
      refine jr_join (fun (k58 : Int32 → JP) => ∀ (s1_58 : Int32), JR p l e R s m args below meth c Q D S0 4 bc bs (k58 s1_58) 58 [some (.ref this), some (.int p1), some (.int p2), some (.int p3)] [.int s1_58, .ref this]) ?_ (fun k58 hk58 => ?_)
      · intro s1_58
        refine jr_iconst K dX11_put_58 (v := (nI 2)) (by decide) ?_
        refine jr_calli0 (jrun_V (As := [.int s1_58, .int (nI 2)]) (st := []) (ci := 11) K (metX11_throwsIf K.hG this s1_58 (nI 2) _) mtX11_throwsIf mvX11_throwsIf q1748 rfl rfl rfl (Nat.le_of_ble_eq_true rfl) (by decide) ⟨Nat.zero_le _, Nat.zero_le _⟩ dX11_put_59) (fun v59 => ?_)
        refine jr_if_eq K (tgt := 66) dX11_put_62 (by decide) ?_ ?_
        · refine jr_aload_n K dX11_put_66 rfl ?_
          refine jr_getA K gf_X11_13 dX11_put_67 (fun v67 => ?_)
          refine jr_bipush K dX11_put_70 (v := (nI 13)) (by decide) ?_
          refine jr_iload_n K dX11_put_72 rfl ?_
          refine jr_iadd K dX11_put_73 ?_
          refine jr_iload_n K dX11_put_74 rfl ?_
          refine jr_iload_n K dX11_put_75 rfl ?_
          refine jr_calli0 (jrun_S (As := [.int p2, .int p3]) (st := [.int ((nI 13) + p1), .ref v67]) K (metX11_man K.hG p2 p3 _) mtX11_man q1772 q1771 rfl rfl (Nat.le_of_ble_eq_true rfl) (by decide) ⟨Nat.zero_le _, Nat.zero_le _⟩ dX11_put_76) (fun v76 => ?_)
          refine jr_iast K dX11_put_79 ?_
          exact hret _ _ _ _ dX11_put_80
        · exact hret _ _ _ _ dX11_put_65
      refine jr_join (fun (k57 : JP) => JR p l e R s m args below meth c Q D S0 4 bc bs k57 57 [some (.ref this), some (.int p1), some (.int p2), some (.int p3)] [.ref this]) ?_ (fun k57 hk57 => ?_)
      · refine jr_iconst K dX11_put_57 (v := (nI 0)) (by decide) ?_
        exact jr_weak (hk58 (nI 0)) ⟨rfl, rfl, rfl, rfl, trivial⟩
      refine jr_icmp_eq K (tgt := 57) dX11_put_41 (by decide) ?_ ?_
      · exact jr_weak (hk57) ⟨rfl, rfl, rfl, rfl, trivial⟩
      · refine jr_iload_n K dX11_put_44 rfl ?_
        refine jr_iconst K dX11_put_45 (v := (nI 0)) (by decide) ?_
        refine jr_iconst K dX11_put_46 (v := (nI 1)) (by decide) ?_
        refine jr_calli0 (jrun_S (As := [.int p3, .int (nI 0), .int (nI 1)]) (st := [.ref this]) K (metX11_in K.hG p3 (nI 0) (nI 1) _) mtX11_in q1746 q1745 rfl rfl (Nat.le_of_ble_eq_true rfl) (by decide) ⟨Nat.zero_le _, Nat.zero_le _⟩ dX11_put_47) (fun v47 => ?_)
        refine jr_if_ne K (tgt := 57) dX11_put_50 (by decide) ?_ ?_
        · exact jr_weak (hk57) ⟨rfl, rfl, rfl, rfl, trivial⟩
        · refine jr_iconst K dX11_put_53 (v := (nI 1)) (by decide) ?_
          refine jr_goto K (tgt := 58) dX11_put_54 (by decide) ?_
          exact jr_weak (hk58 (nI 1)) ⟨rfl, rfl, rfl, rfl, trivial⟩
  refine jr_join (fun (k26 : JP) => JR p l e R s m args below meth c Q D S0 4 bc bs k26 26 [some (.ref this), some (.int p1), some (.int p2), some (.int p3)] [.ref this]) ?_ (fun k26 hk26 => ?_)
  · refine jr_iconst K dX11_put_26 (v := (nI 1)) (by decide) ?_
    refine jr_goto K (tgt := 31) dX11_put_27 (by decide) ?_
    exact jr_weak (hk31 (nI 1)) ⟨rfl, rfl, rfl, rfl, trivial⟩
  refine jr_if_ne K (tgt := 26) dX11_put_10 (by decide) ?_ ?_
  · exact jr_weak (hk26) ⟨rfl, rfl, rfl, rfl, trivial⟩
  · refine jr_iload_n K dX11_put_13 rfl ?_
    refine jr_iconst K dX11_put_14 (v := (-1)) (by decide) ?_
    refine jr_join (fun (k30 : JP) => JR p l e R s m args below meth c Q D S0 4 bc bs k30 30 [some (.ref this), some (.int p1), some (.int p2), some (.int p3)] [.ref this]) ?_ (fun k30 hk30 => ?_)
    · refine jr_iconst K dX11_put_30 (v := (nI 0)) (by decide) ?_
      exact jr_weak (hk31 (nI 0)) ⟨rfl, rfl, rfl, rfl, trivial⟩
    refine jr_icmp_eq K (tgt := 30) dX11_put_15 (by decide) ?_ ?_
    · exact jr_weak (hk30) ⟨rfl, rfl, rfl, rfl, trivial⟩
    · refine jr_aload_n K dX11_put_18 rfl ?_
      refine jr_iload_n K dX11_put_19 rfl ?_
      refine jr_calli0 (jrun_V (As := [.int p2]) (st := [.ref this]) (ci := 11) K (metX11_noKind K.hG this p2 _) mtX11_noKind mvX11_noKind q1763 rfl rfl rfl (Nat.le_of_ble_eq_true rfl) (by decide) ⟨Nat.zero_le _, Nat.zero_le _⟩ dX11_put_20) (fun v20 => ?_)
      refine jr_if_eq K (tgt := 30) dX11_put_23 (by decide) ?_ ?_
      · exact jr_weak (hk30) ⟨rfl, rfl, rfl, rfl, trivial⟩
      · exact jr_weak (hk26) ⟨rfl, rfl, rfl, rfl, trivial⟩
theorem metX11_put (hG : jG l D S0 A0) (this : Nat) (p1 : Int32) (p2 : Int32) (p3 : Int32) (Qj : JP) : Met l yX11_put (ws_ yX11_put cX11_put 4 none) (jrm 15 0 0) (va_Pc [.ref this, .int p1, .int p2, .int p3] (jB D S0 (JX11_put this p1 p2 p3 Qj))) (va_Qv Qj (fun σ t => jRep D S0.heap.size σ t.heap) (jA S0)) 0 0 (jA S0) :=
  jr_start hG (by decide) (Nat.le_of_ble_eq_true rfl) rfl fun p e s m below meth c K hr hn => wX11_put K _ _ this p1 p2 p3 Qj (fun _ _ _ _ d => jr_vret K hr d)
theorem wX11_begins_2 (K : JK p l R s m args meth c D S0 A0 2 cX11_begins "MoveNotesModel" 12) (bc bs : Nat) (this : Nat) (Qj : JP) (hret : jRetV p l e R s m args below meth c Q D S0 2 cX11_begins Qj) : ∀ (n : Nat) (x1_2 : Int32), JR p l e R s m args below meth c Q D S0 2 bc bs (jit (FX11_begins_2 this Qj) (fun _ => jbot) n x1_2) 2 [some (.ref this), some (.int x1_2)] [] := by
  intro n
  induction n with
  | zero =>
    intro x1_2
    exact JR.bot
  | succ n ih2 =>
    intro x1_2
    show JR p l e R s m args below meth c Q D S0 2 bc bs (FX11_begins_2 this Qj (jit (FX11_begins_2 this Qj) (fun _ => jbot) n) x1_2) 2 [some (.ref this), some (.int x1_2)] []
    generalize jit (FX11_begins_2 this Qj) (fun _ => jbot) n = rec2 at ih2 ⊢
    unfold FX11_begins_2
    refine jr_iload_n K dX11_begins_2 rfl ?_
    refine jr_bipush K dX11_begins_3 (v := (nI 36)) (by decide) ?_
    refine jr_icmp_ge K (tgt := 29) dX11_begins_5 (by decide) ?_ ?_
    · exact hret _ _ _ _ dX11_begins_29
    · refine jr_aload_n K dX11_begins_8 rfl ?_
      refine jr_getA K gf_X11_39 dX11_begins_9 (fun v9 => ?_)
      refine jr_iload_n K dX11_begins_12 rfl ?_
      refine jr_aload_n K dX11_begins_13 rfl ?_
      refine jr_getA K gf_X11_13 dX11_begins_14 (fun v14 => ?_)
      refine jr_bipush K dX11_begins_17 (v := (nI 13)) (by decide) ?_
      refine jr_iload_n K dX11_begins_19 rfl ?_
      refine jr_iadd K dX11_begins_20 ?_
      refine jr_iald K dX11_begins_21 (fun v21 => ?_)
      refine jr_iast K dX11_begins_22 ?_
      refine jr_iinc K (v := (x1_2 + (nI 1))) (L' := [some (.ref this), some (.int (x1_2 + (nI 1)))]) dX11_begins_23 rfl rfl (by decide) rfl rfl ?_
      refine jr_goto K (tgt := 2) dX11_begins_26 (by decide) ?_
      exact jr_weak (ih2 (x1_2 + (nI 1))) ⟨rfl, rfl, trivial⟩
theorem wX11_begins (K : JK p l R s m args meth c D S0 A0 2 cX11_begins "MoveNotesModel" 12) (bc bs : Nat) (this : Nat) (Qj : JP) (hret : jRetV p l e R s m args below meth c Q D S0 2 cX11_begins Qj) : JR p l e R s m args below meth c Q D S0 2 bc bs (JX11_begins this Qj) 0 [some (.ref this), none] [] := by
  unfold JX11_begins
  refine jr_iconst K dX11_begins_0 (v := (nI 0)) (by decide) ?_
  refine jr_istore_n K (L' := [some (.ref this), some (.int (nI 0))]) dX11_begins_1 (by decide) rfl rfl ?_
  refine jr_ex (fun n2 => ?_)
  refine jr_weak (wX11_begins_2 K bc bs this Qj hret n2 (nI 0)) ⟨rfl, rfl, trivial⟩
theorem metX11_begins (hG : jG l D S0 A0) (this : Nat) (Qj : JP) : Met l yX11_begins (ws_ yX11_begins cX11_begins 2 none) (jrm 12 0 0) (va_Pc [.ref this] (jB D S0 (JX11_begins this Qj))) (va_Qv Qj (fun σ t => jRep D S0.heap.size σ t.heap) (jA S0)) 0 0 (jA S0) :=
  jr_start hG (by decide) (Nat.le_of_ble_eq_true rfl) rfl fun p e s m below meth c K hr hn => wX11_begins K _ _ this Qj (fun _ _ _ _ d => jr_vret K hr d)
theorem wX11_at (K : JK p l R s m args meth c D S0 A0 3 cX11_at "MoveNotesModel" 12) (bc bs : Nat) (this : Nat) (p1 : Int32) (p2 : Int32) (Qj : Int32 → JP) (hret : jRetI p l e R s m args below meth c Q D S0 3 cX11_at Qj) : JR p l e R s m args below meth c Q D S0 3 bc bs (JX11_at this p1 p2 Qj) 0 [some (.ref this), some (.int p1), some (.int p2)] [] := by
  unfold JX11_at
  refine jr_aload_n K dX11_at_0 rfl ?_
  refine jr_getA K gf_X11_39 dX11_at_1 (fun v1 => ?_)
  refine jr_bipush K dX11_at_4 (v := (nI 36)) (by decide) ?_
  refine jr_iload_n K dX11_at_6 rfl ?_
  refine jr_imul K dX11_at_7 ?_
  refine jr_iload_n K dX11_at_8 rfl ?_
  refine jr_iadd K dX11_at_9 ?_
  refine jr_iald K dX11_at_10 (fun v10 => ?_)
  exact hret _ _ _ _ _ dX11_at_11
theorem metX11_at (hG : jG l D S0 A0) (this : Nat) (p1 : Int32) (p2 : Int32) (Qj : Int32 → JP) : Met l yX11_at (ws_ yX11_at cX11_at 3 (some .int)) (jrm 12 0 0) (va_Pc [.ref this, .int p1, .int p2] (jB D S0 (JX11_at this p1 p2 Qj))) (va_Qi Qj (fun σ t => jRep D S0.heap.size σ t.heap) (jA S0)) 0 0 (jA S0) :=
  jr_start hG (by decide) (Nat.le_of_ble_eq_true rfl) rfl fun p e s m below meth c K hr hn => wX11_at K _ _ this p1 p2 Qj (fun _ _ _ _ _ d => jr_iret K hr rfl d)
theorem wX11_sideOf (K : JK p l R s m args meth c D S0 A0 1 cX11_sideOf "MoveNotesModel" 12) (bc bs : Nat) (p0 : Int32) (Qj : Int32 → JP) (hret : jRetI p l e R s m args below meth c Q D S0 1 cX11_sideOf Qj) : JR p l e R s m args below meth c Q D S0 1 bc bs (JX11_sideOf p0 Qj) 0 [some (.int p0)] [] := by
  unfold JX11_sideOf
  refine jr_iload_n K dX11_sideOf_0 rfl ?_
  refine jr_iconst K dX11_sideOf_1 (v := (nI 1)) (by decide) ?_
  refine jr_iand K dX11_sideOf_2 ?_
  exact hret _ _ _ _ _ dX11_sideOf_3
theorem metX11_sideOf (hG : jG l D S0 A0) (p0 : Int32) (Qj : Int32 → JP) : Met l yX11_sideOf (ws_ yX11_sideOf cX11_sideOf 1 (some .int)) (jrm 12 0 0) (va_Pc [.int p0] (jB D S0 (JX11_sideOf p0 Qj))) (va_Qi Qj (fun σ t => jRep D S0.heap.size σ t.heap) (jA S0)) 0 0 (jA S0) :=
  jr_start hG (by decide) (Nat.le_of_ble_eq_true rfl) rfl fun p e s m below meth c K hr hn => wX11_sideOf K _ _ p0 Qj (fun _ _ _ _ _ d => jr_iret K hr rfl d)
theorem wX11_off (K : JK p l R s m args meth c D S0 A0 5 cX11_off "MoveNotesModel" 13) (bc bs : Nat) (p0 : Int32) (p1 : Int32) (p2 : Int32) (Qj : Int32 → JP) (hret : jRetI p l e R s m args below meth c Q D S0 5 cX11_off Qj) : JR p l e R s m args below meth c Q D S0 5 bc bs (JX11_off p0 p1 p2 Qj) 0 [some (.int p0), some (.int p1), some (.int p2), none, none] [] := by
  unfold JX11_off
  refine jr_iload_n K dX11_off_0 rfl ?_
  refine jr_bipush K dX11_off_1 (v := (nI 6)) (by decide) ?_
  refine jr_irem K dX11_off_3 (by decide) ?_
  refine jr_iload_n K dX11_off_4 rfl ?_
  refine jr_iadd K dX11_off_5 ?_
  refine jr_istore_n K (L' := [some (.int p0), some (.int p1), some (.int p2), some (.int ((jrem p0 (nI 6)) + p1)), none]) dX11_off_6 (by decide) rfl rfl ?_
  refine jr_iload_n K dX11_off_7 rfl ?_
  refine jr_bipush K dX11_off_8 (v := (nI 6)) (by decide) ?_
  refine jr_idiv K dX11_off_10 (by decide) ?_
  refine jr_iload_n K dX11_off_11 rfl ?_
  refine jr_iadd K dX11_off_12 ?_
  refine jr_istore K (L' := [some (.int p0), some (.int p1), some (.int p2), some (.int ((jrem p0 (nI 6)) + p1)), some (.int ((p0 / (nI 6)) + p2))]) dX11_off_13 (by decide) rfl rfl ?_
  refine jr_iload_n K dX11_off_15 rfl ?_
  refine jr_iconst K dX11_off_16 (v := (nI 0)) (by decide) ?_
  refine jr_iconst K dX11_off_17 (v := (nI 5)) (by decide) ?_
  refine jr_calli0 (jrun_S (As := [.int ((jrem p0 (nI 6)) + p1), .int (nI 0), .int (nI 5)]) (st := []) K (metX11_in K.hG ((jrem p0 (nI 6)) + p1) (nI 0) (nI 5) _) mtX11_in q1746 q1745 rfl rfl (Nat.le_of_ble_eq_true rfl) (by decide) ⟨Nat.zero_le _, Nat.zero_le _⟩ dX11_off_18) (fun v18 => ?_)
  refine jr_join (fun (k44 : JP) => JR p l e R s m args below meth c Q D S0 5 bc bs k44 44 [none, none, none, none, none] []) ?_ (fun k44 hk44 => ?_)
  · refine jr_iconst K dX11_off_44 (v := (-1)) (by decide) ?_
    exact hret _ _ _ _ _ dX11_off_45
  refine jr_if_eq K (tgt := 44) dX11_off_21 (by decide) ?_ ?_
  · exact jr_weak (hk44) trivial
  · refine jr_iload K dX11_off_24 rfl ?_
    refine jr_iconst K dX11_off_26 (v := (nI 0)) (by decide) ?_
    refine jr_iconst K dX11_off_27 (v := (nI 5)) (by decide) ?_
    refine jr_calli0 (jrun_S (As := [.int ((p0 / (nI 6)) + p2), .int (nI 0), .int (nI 5)]) (st := []) K (metX11_in K.hG ((p0 / (nI 6)) + p2) (nI 0) (nI 5) _) mtX11_in q1746 q1745 rfl rfl (Nat.le_of_ble_eq_true rfl) (by decide) ⟨Nat.zero_le _, Nat.zero_le _⟩ dX11_off_28) (fun v28 => ?_)
    refine jr_if_eq K (tgt := 44) dX11_off_31 (by decide) ?_ ?_
    · exact jr_weak (hk44) trivial
    · refine jr_bipush K dX11_off_34 (v := (nI 6)) (by decide) ?_
      refine jr_iload K dX11_off_36 rfl ?_
      refine jr_imul K dX11_off_38 ?_
      refine jr_iload_n K dX11_off_39 rfl ?_
      refine jr_iadd K dX11_off_40 ?_
      refine jr_goto K (tgt := 45) dX11_off_41 (by decide) ?_
      exact hret _ _ _ _ _ dX11_off_45
theorem metX11_off (hG : jG l D S0 A0) (p0 : Int32) (p1 : Int32) (p2 : Int32) (Qj : Int32 → JP) : Met l yX11_off (ws_ yX11_off cX11_off 5 (some .int)) (jrm 13 0 0) (va_Pc [.int p0, .int p1, .int p2] (jB D S0 (JX11_off p0 p1 p2 Qj))) (va_Qi Qj (fun σ t => jRep D S0.heap.size σ t.heap) (jA S0)) 0 0 (jA S0) :=
  jr_start hG (by decide) (Nat.le_of_ble_eq_true rfl) rfl fun p e s m below meth c K hr hn => wX11_off K _ _ p0 p1 p2 Qj (fun _ _ _ _ _ d => jr_iret K hr rfl d)
theorem wX11_may (K : JK p l R s m args meth c D S0 A0 4 cX11_may "MoveNotesModel" 12) (bc bs : Nat) (this : Nat) (p1 : Int32) (p2 : Int32) (p3 : Int32) (Qj : JP) (hret : jRetV p l e R s m args below meth c Q D S0 4 cX11_may Qj) : JR p l e R s m args below meth c Q D S0 4 bc bs (JX11_may this p1 p2 p3 Qj) 0 [some (.ref this), some (.int p1), some (.int p2), some (.int p3)] [] := by
  unfold JX11_may
  refine jr_aload_n K dX11_may_0 rfl ?_
  refine jr_getA K gf_X11_43 dX11_may_1 (fun v1 => ?_)
  refine jr_sipush K dX11_may_4 (v := (nI 1296)) (by decide) ?_
  refine jr_iload_n K dX11_may_7 rfl ?_
  refine jr_imul K dX11_may_8 ?_
  refine jr_bipush K dX11_may_9 (v := (nI 36)) (by decide) ?_
  refine jr_iload_n K dX11_may_11 rfl ?_
  refine jr_imul K dX11_may_12 ?_
  refine jr_iadd K dX11_may_13 ?_
  refine jr_iload_n K dX11_may_14 rfl ?_
  refine jr_iadd K dX11_may_15 ?_
  refine jr_iconst K dX11_may_16 (v := (nI 1)) (by decide) ?_
  refine jr_zast K dX11_may_17 ?_
  exact hret _ _ _ _ dX11_may_18
theorem metX11_may (hG : jG l D S0 A0) (this : Nat) (p1 : Int32) (p2 : Int32) (p3 : Int32) (Qj : JP) : Met l yX11_may (ws_ yX11_may cX11_may 4 none) (jrm 12 0 0) (va_Pc [.ref this, .int p1, .int p2, .int p3] (jB D S0 (JX11_may this p1 p2 p3 Qj))) (va_Qv Qj (fun σ t => jRep D S0.heap.size σ t.heap) (jA S0)) 0 0 (jA S0) :=
  jr_start hG (by decide) (Nat.le_of_ble_eq_true rfl) rfl fun p e s m below meth c K hr hn => wX11_may K _ _ this p1 p2 p3 Qj (fun _ _ _ _ d => jr_vret K hr d)
theorem wX11_along_6 (K : JK p l R s m args meth c D S0 A0 10 cX11_along "MoveNotesModel" 14) (bc bs : Nat) (this : Nat) (p1 : Int32) (p2 : Int32) (p3 : Int32) (p4 : Int32) (p5 : Int32) (p6 : Int32) (Qj : JP) (hret : jRetV p l e R s m args below meth c Q D S0 10 cX11_along Qj) : ∀ (n : Nat) (x7_6 : Int32) (x8_6 : Int32), JR p l e R s m args below meth c Q D S0 10 bc bs (jit (FX11_along_6 this p1 p2 p3 p4 p5 p6 Qj) (fun _ _ => jbot) n x7_6 x8_6) 6 [some (.ref this), some (.int p1), some (.int p2), some (.int p3), some (.int p4), some (.int p5), some (.int p6), some (.int x7_6), some (.int x8_6), none] [] := by
  intro n
  induction n with
  | zero =>
    intro x7_6 x8_6
    exact JR.bot
  | succ n ih6 =>
    intro x7_6 x8_6
    show JR p l e R s m args below meth c Q D S0 10 bc bs (FX11_along_6 this p1 p2 p3 p4 p5 p6 Qj (jit (FX11_along_6 this p1 p2 p3 p4 p5 p6 Qj) (fun _ _ => jbot) n) x7_6 x8_6) 6 [some (.ref this), some (.int p1), some (.int p2), some (.int p3), some (.int p4), some (.int p5), some (.int p6), some (.int x7_6), some (.int x8_6), none] []
    generalize jit (FX11_along_6 this p1 p2 p3 p4 p5 p6 Qj) (fun _ _ => jbot) n = rec6 at ih6 ⊢
    unfold FX11_along_6
    refine jr_iload K dX11_along_6 rfl ?_
    refine jr_iload K dX11_along_8 rfl ?_
    refine jr_icmp_ge K (tgt := 85) dX11_along_10 (by decide) ?_ ?_
    · exact hret _ _ _ _ dX11_along_85
    · refine jr_iload K dX11_along_13 rfl ?_
      refine jr_iload_n K dX11_along_15 rfl ?_
      refine jr_iload K dX11_along_16 rfl ?_
      refine jr_calli0 (jrun_S (As := [.int x7_6, .int p3, .int p4]) (st := []) K (metX11_off K.hG x7_6 p3 p4 _) mtX11_off q1861 q1860 rfl rfl (Nat.le_of_ble_eq_true rfl) (by decide) ⟨Nat.zero_le _, Nat.zero_le _⟩ dX11_along_18) (fun v18 => ?_)
      refine jr_istore K (L' := [some (.ref this), some (.int p1), some (.int p2), some (.int p3), some (.int p4), some (.int p5), some (.int p6), some (.int v18), some (.int x8_6), none]) dX11_along_21 (by decide) rfl rfl ?_
      refine jr_iload K dX11_along_23 rfl ?_
      refine jr_if_ge K (tgt := 29) dX11_along_25 (by decide) ?_ ?_
      · refine jr_aload_n K dX11_along_29 rfl ?_
        refine jr_iload_n K dX11_along_30 rfl ?_
        refine jr_iload K dX11_along_31 rfl ?_
        refine jr_calli0 (jrun_V (As := [.int p1, .int v18]) (st := []) (ci := 11) K (metX11_at K.hG this p1 v18 _) mtX11_at mvX11_at q1845 rfl rfl rfl (Nat.le_of_ble_eq_true rfl) (by decide) ⟨Nat.zero_le _, Nat.zero_le _⟩ dX11_along_33) (fun v33 => ?_)
        refine jr_istore K (L' := [some (.ref this), some (.int p1), some (.int p2), some (.int p3), some (.int p4), some (.int p5), some (.int p6), some (.int v18), some (.int x8_6), some (.int v33)]) dX11_along_36 (by decide) rfl rfl ?_
        refine jr_iload K dX11_along_38 rfl ?_
        refine jr_join (fun (k73 : JP) => JR p l e R s m args below meth c Q D S0 10 bc bs k73 73 [some (.ref this), some (.int p1), some (.int p2), some (.int p3), some (.int p4), some (.int p5), some (.int p6), some (.int v18), some (.int x8_6), some (.int v33)] []) ?_ (fun k73 hk73 => ?_)
        · refine jr_iload K dX11_along_73 rfl ?_
          refine jr_if_lt K (tgt := 79) dX11_along_75 (by decide) ?_ ?_
          · refine jr_iinc K (v := (x8_6 + (nI 1))) (L' := [some (.ref this), some (.int p1), some (.int p2), some (.int p3), some (.int p4), some (.int p5), some (.int p6), some (.int v18), some (.int (x8_6 + (nI 1))), some (.int v33)]) dX11_along_79 rfl rfl (by decide) rfl rfl ?_
            refine jr_goto K (tgt := 6) dX11_along_82 (by decide) ?_
            exact jr_weak (ih6 v18 (x8_6 + (nI 1))) ⟨rfl, rfl, rfl, rfl, rfl, rfl, rfl, rfl, rfl, trivial⟩
          · exact hret _ _ _ _ dX11_along_78
        refine jr_join (fun (k65 : JP) => JR p l e R s m args below meth c Q D S0 10 bc bs k65 65 [some (.ref this), some (.int p1), some (.int p2), some (.int p3), some (.int p4), some (.int p5), some (.int p6), some (.int v18), some (.int x8_6), some (.int v33)] []) ?_ (fun k65 hk65 => ?_)
        · refine jr_aload_n K dX11_along_65 rfl ?_
          refine jr_iload_n K dX11_along_66 rfl ?_
          refine jr_iload_n K dX11_along_67 rfl ?_
          refine jr_iload K dX11_along_68 rfl ?_
          refine jr_callv0 (jrun_V (As := [.int p1, .int p2, .int v18]) (st := []) (ci := 11) K (metX11_may K.hG this p1 p2 v18 _) mtX11_may mvX11_may q1863 rfl rfl rfl (Nat.le_of_ble_eq_true rfl) (by decide) ⟨Nat.zero_le _, Nat.zero_le _⟩ dX11_along_70) ?_
          exact jr_weak (hk73) ⟨rfl, rfl, rfl, rfl, rfl, rfl, rfl, rfl, rfl, rfl, trivial⟩
        refine jr_if_lt K (tgt := 65) dX11_along_40 (by decide) ?_ ?_
        · exact jr_weak (hk65) ⟨rfl, rfl, rfl, rfl, rfl, rfl, rfl, rfl, rfl, rfl, trivial⟩
        · refine jr_iload K dX11_along_43 rfl ?_
          refine jr_if_ne K (tgt := 73) dX11_along_45 (by decide) ?_ ?_
          · exact jr_weak (hk73) ⟨rfl, rfl, rfl, rfl, rfl, rfl, rfl, rfl, rfl, rfl, trivial⟩
          · refine jr_iload K dX11_along_48 rfl ?_
            refine jr_calli0 (jrun_S (As := [.int v33]) (st := []) K (metX11_sideOf K.hG v33 _) mtX11_sideOf q1850 q1849 rfl rfl (Nat.le_of_ble_eq_true rfl) (by decide) ⟨Nat.zero_le _, Nat.zero_le _⟩ dX11_along_50) (fun v50 => ?_)
            refine jr_aload_n K dX11_along_53 rfl ?_
            refine jr_iload_n K dX11_along_54 rfl ?_
            refine jr_iload_n K dX11_along_55 rfl ?_
            refine jr_calli0 (jrun_V (As := [.int p1, .int p2]) (st := [.int v50]) (ci := 11) K (metX11_at K.hG this p1 p2 _) mtX11_at mvX11_at q1845 rfl rfl rfl (Nat.le_of_ble_eq_true rfl) (by decide) ⟨Nat.zero_le _, Nat.zero_le _⟩ dX11_along_56) (fun v56 => ?_)
            refine jr_calli0 (jrun_S (As := [.int v56]) (st := [.int v50]) K (metX11_sideOf K.hG v56 _) mtX11_sideOf q1850 q1849 rfl rfl (Nat.le_of_ble_eq_true rfl) (by decide) ⟨Nat.zero_le _, Nat.zero_le _⟩ dX11_along_59) (fun v59 => ?_)
            refine jr_icmp_eq K (tgt := 73) dX11_along_62 (by decide) ?_ ?_
            · exact jr_weak (hk73) ⟨rfl, rfl, rfl, rfl, rfl, rfl, rfl, rfl, rfl, rfl, trivial⟩
            · exact jr_weak (hk65) ⟨rfl, rfl, rfl, rfl, rfl, rfl, rfl, rfl, rfl, rfl, trivial⟩
      · exact hret _ _ _ _ dX11_along_28
theorem wX11_along (K : JK p l R s m args meth c D S0 A0 10 cX11_along "MoveNotesModel" 14) (bc bs : Nat) (this : Nat) (p1 : Int32) (p2 : Int32) (p3 : Int32) (p4 : Int32) (p5 : Int32) (p6 : Int32) (Qj : JP) (hret : jRetV p l e R s m args below meth c Q D S0 10 cX11_along Qj) : JR p l e R s m args below meth c Q D S0 10 bc bs (JX11_along this p1 p2 p3 p4 p5 p6 Qj) 0 [some (.ref this), some (.int p1), some (.int p2), some (.int p3), some (.int p4), some (.int p5), some (.int p6), none, none, none] [] := by
  unfold JX11_along
  refine jr_iload_n K dX11_along_0 rfl ?_
  refine jr_istore K (L' := [some (.ref this), some (.int p1), some (.int p2), some (.int p3), some (.int p4), some (.int p5), some (.int p6), some (.int p2), none, none]) dX11_along_1 (by decide) rfl rfl ?_
  refine jr_iconst K dX11_along_3 (v := (nI 0)) (by decide) ?_
  refine jr_istore K (L' := [some (.ref this), some (.int p1), some (.int p2), some (.int p3), some (.int p4), some (.int p5), some (.int p6), some (.int p2), some (.int (nI 0)), none]) dX11_along_4 (by decide) rfl rfl ?_
  refine jr_ex (fun n6 => ?_)
  refine jr_weak (wX11_along_6 K bc bs this p1 p2 p3 p4 p5 p6 Qj hret n6 p2 (nI 0)) ⟨rfl, rfl, rfl, rfl, rfl, rfl, rfl, rfl, rfl, trivial⟩
theorem metX11_along (hG : jG l D S0 A0) (this : Nat) (p1 : Int32) (p2 : Int32) (p3 : Int32) (p4 : Int32) (p5 : Int32) (p6 : Int32) (Qj : JP) : Met l yX11_along (ws_ yX11_along cX11_along 10 none) (jrm 14 0 0) (va_Pc [.ref this, .int p1, .int p2, .int p3, .int p4, .int p5, .int p6] (jB D S0 (JX11_along this p1 p2 p3 p4 p5 p6 Qj))) (va_Qv Qj (fun σ t => jRep D S0.heap.size σ t.heap) (jA S0)) 0 0 (jA S0) :=
  jr_start hG (by decide) (Nat.le_of_ble_eq_true rfl) rfl fun p e s m below meth c K hr hn => wX11_along K _ _ this p1 p2 p3 p4 p5 p6 Qj (fun _ _ _ _ d => jr_vret K hr d)
theorem wX11_leaps_12 (K : JK p l R s m args meth c D S0 A0 5 cX11_leaps "MoveNotesModel" 15) (bc bs : Nat) (this : Nat) (p1 : Int32) (p2 : Int32) (x3_3 : Int32) (k48 : JP) (hk48 : JR p l e R s m args below meth c Q D S0 5 bc bs k48 48 [some (.ref this), some (.int p1), some (.int p2), some (.int x3_3), none] []) : ∀ (n : Nat) (x4_12 : Int32), JR p l e R s m args below meth c Q D S0 5 bc bs (jit (FX11_leaps_12 this p1 p2 x3_3 k48) (fun _ => jbot) n x4_12) 12 [some (.ref this), some (.int p1), some (.int p2), some (.int x3_3), some (.int x4_12)] [] := by
  intro n
  induction n with
  | zero =>
    intro x4_12
    exact JR.bot
  | succ n ih12 =>
    intro x4_12
    show JR p l e R s m args below meth c Q D S0 5 bc bs (FX11_leaps_12 this p1 p2 x3_3 k48 (jit (FX11_leaps_12 this p1 p2 x3_3 k48) (fun _ => jbot) n) x4_12) 12 [some (.ref this), some (.int p1), some (.int p2), some (.int x3_3), some (.int x4_12)] []
    generalize jit (FX11_leaps_12 this p1 p2 x3_3 k48) (fun _ => jbot) n = rec12 at ih12 ⊢
    unfold FX11_leaps_12
    refine jr_iload K dX11_leaps_12 rfl ?_
    refine jr_iconst K dX11_leaps_14 (v := (nI 2)) (by decide) ?_
    refine jr_icmp_gt K (tgt := 48) dX11_leaps_15 (by decide) ?_ ?_
    · exact jr_weak (hk48) ⟨rfl, rfl, rfl, rfl, trivial⟩
    · refine jr_iload_n K dX11_leaps_18 rfl ?_
      refine jr_iload_n K dX11_leaps_19 rfl ?_
      refine jr_imul K dX11_leaps_20 ?_
      refine jr_iload K dX11_leaps_21 rfl ?_
      refine jr_iload K dX11_leaps_23 rfl ?_
      refine jr_imul K dX11_leaps_25 ?_
      refine jr_iadd K dX11_leaps_26 ?_
      refine jr_iconst K dX11_leaps_27 (v := (nI 5)) (by decide) ?_
      refine jr_join (fun (k42 : JP) => JR p l e R s m args below meth c Q D S0 5 bc bs k42 42 [some (.ref this), some (.int p1), some (.int p2), some (.int x3_3), some (.int x4_12)] []) ?_ (fun k42 hk42 => ?_)
      · refine jr_iinc K (v := (x4_12 + (nI 1))) (L' := [some (.ref this), some (.int p1), some (.int p2), some (.int x3_3), some (.int (x4_12 + (nI 1)))]) dX11_leaps_42 rfl rfl (by decide) rfl rfl ?_
        refine jr_goto K (tgt := 12) dX11_leaps_45 (by decide) ?_
        exact jr_weak (ih12 (x4_12 + (nI 1))) ⟨rfl, rfl, rfl, rfl, rfl, trivial⟩
      refine jr_icmp_ne K (tgt := 42) dX11_leaps_28 (by decide) ?_ ?_
      · exact jr_weak (hk42) ⟨rfl, rfl, rfl, rfl, rfl, trivial⟩
      · refine jr_aload_n K dX11_leaps_31 rfl ?_
        refine jr_iload_n K dX11_leaps_32 rfl ?_
        refine jr_iload_n K dX11_leaps_33 rfl ?_
        refine jr_iload_n K dX11_leaps_34 rfl ?_
        refine jr_iload K dX11_leaps_35 rfl ?_
        refine jr_iconst K dX11_leaps_37 (v := (nI 1)) (by decide) ?_
        refine jr_iconst K dX11_leaps_38 (v := (nI 0)) (by decide) ?_
        refine jr_callv0 (jrun_V (As := [.int p1, .int p2, .int x3_3, .int x4_12, .int (nI 1), .int (nI 0)]) (st := []) (ci := 11) K (metX11_along K.hG this p1 p2 x3_3 x4_12 (nI 1) (nI 0) _) mtX11_along mvX11_along q1856 rfl rfl rfl (Nat.le_of_ble_eq_true rfl) (by decide) ⟨Nat.zero_le _, Nat.zero_le _⟩ dX11_leaps_39) ?_
        exact jr_weak (hk42) ⟨rfl, rfl, rfl, rfl, rfl, trivial⟩
theorem wX11_leaps_3 (K : JK p l R s m args meth c D S0 A0 5 cX11_leaps "MoveNotesModel" 15) (bc bs : Nat) (this : Nat) (p1 : Int32) (p2 : Int32) (Qj : JP) (hret : jRetV p l e R s m args below meth c Q D S0 5 cX11_leaps Qj) : ∀ (n : Nat) (x3_3 : Int32), JR p l e R s m args below meth c Q D S0 5 bc bs (jit (FX11_leaps_3 this p1 p2 Qj) (fun _ => jbot) n x3_3) 3 [some (.ref this), some (.int p1), some (.int p2), some (.int x3_3), none] [] := by
  intro n
  induction n with
  | zero =>
    intro x3_3
    exact JR.bot
  | succ n ih3 =>
    intro x3_3
    show JR p l e R s m args below meth c Q D S0 5 bc bs (FX11_leaps_3 this p1 p2 Qj (jit (FX11_leaps_3 this p1 p2 Qj) (fun _ => jbot) n) x3_3) 3 [some (.ref this), some (.int p1), some (.int p2), some (.int x3_3), none] []
    generalize jit (FX11_leaps_3 this p1 p2 Qj) (fun _ => jbot) n = rec3 at ih3 ⊢
    unfold FX11_leaps_3
    refine jr_iload_n K dX11_leaps_3 rfl ?_
    refine jr_iconst K dX11_leaps_4 (v := (nI 2)) (by decide) ?_
    refine jr_icmp_gt K (tgt := 54) dX11_leaps_5 (by decide) ?_ ?_
    · exact hret _ _ _ _ dX11_leaps_54
    · refine jr_bipush K dX11_leaps_8 (v := (-2)) (by decide) ?_
      refine jr_istore K (L' := [some (.ref this), some (.int p1), some (.int p2), some (.int x3_3), some (.int (-2))]) dX11_leaps_10 (by decide) rfl rfl ?_
      refine jr_ex (fun n12 => ?_)
      refine jr_weak (wX11_leaps_12 K bc bs this p1 p2 x3_3 _ ?_ n12 (-2)) ⟨rfl, rfl, rfl, rfl, rfl, trivial⟩
      · refine jr_iinc K (v := (x3_3 + (nI 1))) (L' := [some (.ref this), some (.int p1), some (.int p2), some (.int (x3_3 + (nI 1))), none]) dX11_leaps_48 rfl rfl (by decide) rfl rfl ?_
        refine jr_goto K (tgt := 3) dX11_leaps_51 (by decide) ?_
        exact jr_weak (ih3 (x3_3 + (nI 1))) ⟨rfl, rfl, rfl, rfl, trivial⟩
theorem wX11_leaps (K : JK p l R s m args meth c D S0 A0 5 cX11_leaps "MoveNotesModel" 15) (bc bs : Nat) (this : Nat) (p1 : Int32) (p2 : Int32) (Qj : JP) (hret : jRetV p l e R s m args below meth c Q D S0 5 cX11_leaps Qj) : JR p l e R s m args below meth c Q D S0 5 bc bs (JX11_leaps this p1 p2 Qj) 0 [some (.ref this), some (.int p1), some (.int p2), none, none] [] := by
  unfold JX11_leaps
  refine jr_bipush K dX11_leaps_0 (v := (-2)) (by decide) ?_
  refine jr_istore_n K (L' := [some (.ref this), some (.int p1), some (.int p2), some (.int (-2)), none]) dX11_leaps_2 (by decide) rfl rfl ?_
  refine jr_ex (fun n3 => ?_)
  refine jr_weak (wX11_leaps_3 K bc bs this p1 p2 Qj hret n3 (-2)) ⟨rfl, rfl, rfl, rfl, trivial⟩
theorem metX11_leaps (hG : jG l D S0 A0) (this : Nat) (p1 : Int32) (p2 : Int32) (Qj : JP) : Met l yX11_leaps (ws_ yX11_leaps cX11_leaps 5 none) (jrm 15 0 0) (va_Pc [.ref this, .int p1, .int p2] (jB D S0 (JX11_leaps this p1 p2 Qj))) (va_Qv Qj (fun σ t => jRep D S0.heap.size σ t.heap) (jA S0)) 0 0 (jA S0) :=
  jr_start hG (by decide) (Nat.le_of_ble_eq_true rfl) rfl fun p e s m below meth c K hr hn => wX11_leaps K _ _ this p1 p2 Qj (fun _ _ _ _ d => jr_vret K hr d)
theorem wX11_bites_3 (K : JK p l R s m args meth c D S0 A0 6 cX11_bites "MoveNotesModel" 15) (bc bs : Nat) (this : Nat) (p1 : Int32) (p2 : Int32) (p3 : Int32) (Qj : JP) (hret : jRetV p l e R s m args below meth c Q D S0 6 cX11_bites Qj) : ∀ (n : Nat) (x4_3 : Int32), JR p l e R s m args below meth c Q D S0 6 bc bs (jit (FX11_bites_3 this p1 p2 p3 Qj) (fun _ => jbot) n x4_3) 3 [some (.ref this), some (.int p1), some (.int p2), some (.int p3), some (.int x4_3), none] [] := by
  intro n
  induction n with
  | zero =>
    intro x4_3
    exact JR.bot
  | succ n ih3 =>
    intro x4_3
    show JR p l e R s m args below meth c Q D S0 6 bc bs (FX11_bites_3 this p1 p2 p3 Qj (jit (FX11_bites_3 this p1 p2 p3 Qj) (fun _ => jbot) n) x4_3) 3 [some (.ref this), some (.int p1), some (.int p2), some (.int p3), some (.int x4_3), none] []
    generalize jit (FX11_bites_3 this p1 p2 p3 Qj) (fun _ => jbot) n = rec3 at ih3 ⊢
    unfold FX11_bites_3
    refine jr_iload K dX11_bites_3 rfl ?_
    refine jr_iconst K dX11_bites_5 (v := (nI 1)) (by decide) ?_
    refine jr_icmp_gt K (tgt := 50) dX11_bites_6 (by decide) ?_ ?_
    · exact hret _ _ _ _ dX11_bites_50
    · refine jr_iload_n K dX11_bites_9 rfl ?_
      refine jr_iload K dX11_bites_10 rfl ?_
      refine jr_iload_n K dX11_bites_12 rfl ?_
      refine jr_calli0 (jrun_S (As := [.int p2, .int x4_3, .int p3]) (st := []) K (metX11_off K.hG p2 x4_3 p3 _) mtX11_off q1861 q1860 rfl rfl (Nat.le_of_ble_eq_true rfl) (by decide) ⟨Nat.zero_le _, Nat.zero_le _⟩ dX11_bites_13) (fun v13 => ?_)
      refine jr_istore K (L' := [some (.ref this), some (.int p1), some (.int p2), some (.int p3), some (.int x4_3), some (.int v13)]) dX11_bites_16 (by decide) rfl rfl ?_
      refine jr_iload K dX11_bites_18 rfl ?_
      refine jr_join (fun (k44 : JP) => JR p l e R s m args below meth c Q D S0 6 bc bs k44 44 [some (.ref this), some (.int p1), some (.int p2), some (.int p3), some (.int x4_3), none] []) ?_ (fun k44 hk44 => ?_)
      · refine jr_iinc K (v := (x4_3 + (nI 2))) (L' := [some (.ref this), some (.int p1), some (.int p2), some (.int p3), some (.int (x4_3 + (nI 2))), none]) dX11_bites_44 rfl rfl (by decide) rfl rfl ?_
        refine jr_goto K (tgt := 3) dX11_bites_47 (by decide) ?_
        exact jr_weak (ih3 (x4_3 + (nI 2))) ⟨rfl, rfl, rfl, rfl, rfl, trivial⟩
      refine jr_if_lt K (tgt := 44) dX11_bites_20 (by decide) ?_ ?_
      · exact jr_weak (hk44) ⟨rfl, rfl, rfl, rfl, rfl, trivial⟩
      · refine jr_aload_n K dX11_bites_23 rfl ?_
        refine jr_iload_n K dX11_bites_24 rfl ?_
        refine jr_iload K dX11_bites_25 rfl ?_
        refine jr_calli0 (jrun_V (As := [.int p1, .int v13]) (st := []) (ci := 11) K (metX11_at K.hG this p1 v13 _) mtX11_at mvX11_at q1845 rfl rfl rfl (Nat.le_of_ble_eq_true rfl) (by decide) ⟨Nat.zero_le _, Nat.zero_le _⟩ dX11_bites_27) (fun v27 => ?_)
        refine jr_if_lt K (tgt := 44) dX11_bites_30 (by decide) ?_ ?_
        · exact jr_weak (hk44) ⟨rfl, rfl, rfl, rfl, rfl, trivial⟩
        · refine jr_aload_n K dX11_bites_33 rfl ?_
          refine jr_iload_n K dX11_bites_34 rfl ?_
          refine jr_iload_n K dX11_bites_35 rfl ?_
          refine jr_iload K dX11_bites_36 rfl ?_
          refine jr_iload_n K dX11_bites_38 rfl ?_
          refine jr_iconst K dX11_bites_39 (v := (nI 1)) (by decide) ?_
          refine jr_iconst K dX11_bites_40 (v := (nI 0)) (by decide) ?_
          refine jr_callv0 (jrun_V (As := [.int p1, .int p2, .int x4_3, .int p3, .int (nI 1), .int (nI 0)]) (st := []) (ci := 11) K (metX11_along K.hG this p1 p2 x4_3 p3 (nI 1) (nI 0) _) mtX11_along mvX11_along q1856 rfl rfl rfl (Nat.le_of_ble_eq_true rfl) (by decide) ⟨Nat.zero_le _, Nat.zero_le _⟩ dX11_bites_41) ?_
          exact jr_weak (hk44) ⟨rfl, rfl, rfl, rfl, rfl, trivial⟩
theorem wX11_bites (K : JK p l R s m args meth c D S0 A0 6 cX11_bites "MoveNotesModel" 15) (bc bs : Nat) (this : Nat) (p1 : Int32) (p2 : Int32) (p3 : Int32) (Qj : JP) (hret : jRetV p l e R s m args below meth c Q D S0 6 cX11_bites Qj) : JR p l e R s m args below meth c Q D S0 6 bc bs (JX11_bites this p1 p2 p3 Qj) 0 [some (.ref this), some (.int p1), some (.int p2), some (.int p3), none, none] [] := by
  unfold JX11_bites
  refine jr_iconst K dX11_bites_0 (v := (-1)) (by decide) ?_
  refine jr_istore K (L' := [some (.ref this), some (.int p1), some (.int p2), some (.int p3), some (.int (-1)), none]) dX11_bites_1 (by decide) rfl rfl ?_
  refine jr_ex (fun n3 => ?_)
  refine jr_weak (wX11_bites_3 K bc bs this p1 p2 p3 Qj hret n3 (-1)) ⟨rfl, rfl, rfl, rfl, rfl, trivial⟩
theorem metX11_bites (hG : jG l D S0 A0) (this : Nat) (p1 : Int32) (p2 : Int32) (p3 : Int32) (Qj : JP) : Met l yX11_bites (ws_ yX11_bites cX11_bites 6 none) (jrm 15 0 0) (va_Pc [.ref this, .int p1, .int p2, .int p3] (jB D S0 (JX11_bites this p1 p2 p3 Qj))) (va_Qv Qj (fun σ t => jRep D S0.heap.size σ t.heap) (jA S0)) 0 0 (jA S0) :=
  jr_start hG (by decide) (Nat.le_of_ble_eq_true rfl) rfl fun p e s m below meth c K hr hn => wX11_bites K _ _ this p1 p2 p3 Qj (fun _ _ _ _ d => jr_vret K hr d)
theorem wX11_goes_187 (K : JK p l R s m args meth c D S0 A0 11 cX11_goes "MoveNotesModel" 16) (bc bs : Nat) (this : Nat) (p1 : Int32) (p2 : Int32) (v3 : Int32) (s0_19 : Int32) (x6_35 : Int32) (v62 : Int32) (v78 : Int32) (x9_172 : Int32) (k212 : JP) (hk212 : JR p l e R s m args below meth c Q D S0 11 bc bs k212 212 [some (.ref this), some (.int p1), some (.int p2), none, some (.int s0_19), some (.int ((nI 49) + ((nI 14) * (v3 / (nI 2))))), some (.int x6_35), some (.int v62), some (.int v78), some (.int x9_172), none] []) : ∀ (n : Nat) (x10_187 : Int32), JR p l e R s m args below meth c Q D S0 11 bc bs (jit (FX11_goes_187 this p1 p2 v78 x9_172 k212) (fun _ => jbot) n x10_187) 187 [some (.ref this), some (.int p1), some (.int p2), none, some (.int s0_19), some (.int ((nI 49) + ((nI 14) * (v3 / (nI 2))))), some (.int x6_35), some (.int v62), some (.int v78), some (.int x9_172), some (.int x10_187)] [] := by
  intro n
  induction n with
  | zero =>
    intro x10_187
    exact JR.bot
  | succ n ih187 =>
    intro x10_187
    show JR p l e R s m args below meth c Q D S0 11 bc bs (FX11_goes_187 this p1 p2 v78 x9_172 k212 (jit (FX11_goes_187 this p1 p2 v78 x9_172 k212) (fun _ => jbot) n) x10_187) 187 [some (.ref this), some (.int p1), some (.int p2), none, some (.int s0_19), some (.int ((nI 49) + ((nI 14) * (v3 / (nI 2))))), some (.int x6_35), some (.int v62), some (.int v78), some (.int x9_172), some (.int x10_187)] []
    generalize jit (FX11_goes_187 this p1 p2 v78 x9_172 k212) (fun _ => jbot) n = rec187 at ih187 ⊢
    unfold FX11_goes_187
    refine jr_iload K dX11_goes_187 rfl ?_
    refine jr_iconst K dX11_goes_189 (v := (nI 1)) (by decide) ?_
    refine jr_icmp_gt K (tgt := 212) dX11_goes_190 (by decide) ?_ ?_
    · exact jr_weak (hk212) ⟨rfl, rfl, rfl, rfl, rfl, rfl, rfl, rfl, rfl, trivial⟩
    · refine jr_aload_n K dX11_goes_193 rfl ?_
      refine jr_iload_n K dX11_goes_194 rfl ?_
      refine jr_iload_n K dX11_goes_195 rfl ?_
      refine jr_iload K dX11_goes_196 rfl ?_
      refine jr_iload K dX11_goes_198 rfl ?_
      refine jr_iload K dX11_goes_200 rfl ?_
      refine jr_iconst K dX11_goes_202 (v := (nI 0)) (by decide) ?_
      refine jr_callv0 (jrun_V (As := [.int p1, .int p2, .int x9_172, .int x10_187, .int v78, .int (nI 0)]) (st := []) (ci := 11) K (metX11_along K.hG this p1 p2 x9_172 x10_187 v78 (nI 0) _) mtX11_along mvX11_along q1856 rfl rfl rfl (Nat.le_of_ble_eq_true rfl) (by decide) ⟨Nat.zero_le _, Nat.zero_le _⟩ dX11_goes_203) ?_
      refine jr_iinc K (v := (x10_187 + (nI 2))) (L' := [some (.ref this), some (.int p1), some (.int p2), none, some (.int s0_19), some (.int ((nI 49) + ((nI 14) * (v3 / (nI 2))))), some (.int x6_35), some (.int v62), some (.int v78), some (.int x9_172), some (.int (x10_187 + (nI 2)))]) dX11_goes_206 rfl rfl (by decide) rfl rfl ?_
      refine jr_goto K (tgt := 187) dX11_goes_209 (by decide) ?_
      exact jr_weak (ih187 (x10_187 + (nI 2))) ⟨rfl, rfl, rfl, rfl, rfl, rfl, rfl, rfl, rfl, rfl, trivial⟩
theorem wX11_goes_172 (K : JK p l R s m args meth c D S0 A0 11 cX11_goes "MoveNotesModel" 16) (bc bs : Nat) (this : Nat) (p1 : Int32) (p2 : Int32) (v3 : Int32) (s0_19 : Int32) (x6_35 : Int32) (v62 : Int32) (v78 : Int32) (k218 : JP) (hk218 : JR p l e R s m args below meth c Q D S0 11 bc bs k218 218 [some (.ref this), some (.int p1), some (.int p2), none, some (.int s0_19), some (.int ((nI 49) + ((nI 14) * (v3 / (nI 2))))), some (.int x6_35), none, none, none, none] []) : ∀ (n : Nat) (x9_172 : Int32), JR p l e R s m args below meth c Q D S0 11 bc bs (jit (FX11_goes_172 this p1 p2 v62 v78 k218) (fun _ => jbot) n x9_172) 172 [some (.ref this), some (.int p1), some (.int p2), none, some (.int s0_19), some (.int ((nI 49) + ((nI 14) * (v3 / (nI 2))))), some (.int x6_35), some (.int v62), some (.int v78), some (.int x9_172), none] [] := by
  intro n
  induction n with
  | zero =>
    intro x9_172
    exact JR.bot
  | succ n ih172 =>
    intro x9_172
    show JR p l e R s m args below meth c Q D S0 11 bc bs (FX11_goes_172 this p1 p2 v62 v78 k218 (jit (FX11_goes_172 this p1 p2 v62 v78 k218) (fun _ => jbot) n) x9_172) 172 [some (.ref this), some (.int p1), some (.int p2), none, some (.int s0_19), some (.int ((nI 49) + ((nI 14) * (v3 / (nI 2))))), some (.int x6_35), some (.int v62), some (.int v78), some (.int x9_172), none] []
    generalize jit (FX11_goes_172 this p1 p2 v62 v78 k218) (fun _ => jbot) n = rec172 at ih172 ⊢
    unfold FX11_goes_172
    refine jr_iload K dX11_goes_172 rfl ?_
    refine jr_iconst K dX11_goes_174 (v := (nI 1)) (by decide) ?_
    refine jr_icmp_gt K (tgt := 218) dX11_goes_175 (by decide) ?_ ?_
    · exact jr_weak (hk218) ⟨rfl, rfl, rfl, rfl, rfl, rfl, trivial⟩
    · refine jr_iload K dX11_goes_178 rfl ?_
      refine jr_iconst K dX11_goes_180 (v := (nI 1)) (by decide) ?_
      refine jr_icmp_ne K (tgt := 218) dX11_goes_181 (by decide) ?_ ?_
      · exact jr_weak (hk218) ⟨rfl, rfl, rfl, rfl, rfl, rfl, trivial⟩
      · refine jr_iconst K dX11_goes_184 (v := (-1)) (by decide) ?_
        refine jr_istore K (L' := [some (.ref this), some (.int p1), some (.int p2), none, some (.int s0_19), some (.int ((nI 49) + ((nI 14) * (v3 / (nI 2))))), some (.int x6_35), some (.int v62), some (.int v78), some (.int x9_172), some (.int (-1))]) dX11_goes_185 (by decide) rfl rfl ?_
        refine jr_ex (fun n187 => ?_)
        refine jr_weak (wX11_goes_187 K bc bs this p1 p2 v3 s0_19 x6_35 v62 v78 x9_172 _ ?_ n187 (-1)) ⟨rfl, rfl, rfl, rfl, rfl, rfl, rfl, rfl, rfl, rfl, trivial⟩
        · refine jr_iinc K (v := (x9_172 + (nI 2))) (L' := [some (.ref this), some (.int p1), some (.int p2), none, some (.int s0_19), some (.int ((nI 49) + ((nI 14) * (v3 / (nI 2))))), some (.int x6_35), some (.int v62), some (.int v78), some (.int (x9_172 + (nI 2))), none]) dX11_goes_212 rfl rfl (by decide) rfl rfl ?_
          refine jr_goto K (tgt := 172) dX11_goes_215 (by decide) ?_
          exact jr_weak (ih172 (x9_172 + (nI 2))) ⟨rfl, rfl, rfl, rfl, rfl, rfl, rfl, rfl, rfl, trivial⟩
theorem wX11_goes_128 (K : JK p l R s m args meth c D S0 A0 11 cX11_goes "MoveNotesModel" 16) (bc bs : Nat) (this : Nat) (p1 : Int32) (p2 : Int32) (v3 : Int32) (s0_19 : Int32) (x6_35 : Int32) (v62 : Int32) (v78 : Int32) (k169 : JP) (hk169 : JR p l e R s m args below meth c Q D S0 11 bc bs k169 169 [some (.ref this), some (.int p1), some (.int p2), none, some (.int s0_19), some (.int ((nI 49) + ((nI 14) * (v3 / (nI 2))))), some (.int x6_35), some (.int v62), some (.int v78), none, none] []) : ∀ (n : Nat) (x9_128 : Int32), JR p l e R s m args below meth c Q D S0 11 bc bs (jit (FX11_goes_128 this p1 p2 v62 v78 k169) (fun _ => jbot) n x9_128) 128 [some (.ref this), some (.int p1), some (.int p2), none, some (.int s0_19), some (.int ((nI 49) + ((nI 14) * (v3 / (nI 2))))), some (.int x6_35), some (.int v62), some (.int v78), some (.int x9_128), none] [] := by
  intro n
  induction n with
  | zero =>
    intro x9_128
    exact JR.bot
  | succ n ih128 =>
    intro x9_128
    show JR p l e R s m args below meth c Q D S0 11 bc bs (FX11_goes_128 this p1 p2 v62 v78 k169 (jit (FX11_goes_128 this p1 p2 v62 v78 k169) (fun _ => jbot) n) x9_128) 128 [some (.ref this), some (.int p1), some (.int p2), none, some (.int s0_19), some (.int ((nI 49) + ((nI 14) * (v3 / (nI 2))))), some (.int x6_35), some (.int v62), some (.int v78), some (.int x9_128), none] []
    generalize jit (FX11_goes_128 this p1 p2 v62 v78 k169) (fun _ => jbot) n = rec128 at ih128 ⊢
    unfold FX11_goes_128
    refine jr_iload K dX11_goes_128 rfl ?_
    refine jr_iconst K dX11_goes_130 (v := (nI 1)) (by decide) ?_
    refine jr_icmp_gt K (tgt := 169) dX11_goes_131 (by decide) ?_ ?_
    · exact jr_weak (hk169) ⟨rfl, rfl, rfl, rfl, rfl, rfl, rfl, rfl, trivial⟩
    · refine jr_iload K dX11_goes_134 rfl ?_
      refine jr_if_ne K (tgt := 169) dX11_goes_136 (by decide) ?_ ?_
      · exact jr_weak (hk169) ⟨rfl, rfl, rfl, rfl, rfl, rfl, rfl, rfl, trivial⟩
      · refine jr_aload_n K dX11_goes_139 rfl ?_
        refine jr_iload_n K dX11_goes_140 rfl ?_
        refine jr_iload_n K dX11_goes_141 rfl ?_
        refine jr_iload K dX11_goes_142 rfl ?_
        refine jr_iconst K dX11_goes_144 (v := (nI 0)) (by decide) ?_
        refine jr_iload K dX11_goes_145 rfl ?_
        refine jr_iconst K dX11_goes_147 (v := (nI 0)) (by decide) ?_
        refine jr_callv0 (jrun_V (As := [.int p1, .int p2, .int x9_128, .int (nI 0), .int v78, .int (nI 0)]) (st := []) (ci := 11) K (metX11_along K.hG this p1 p2 x9_128 (nI 0) v78 (nI 0) _) mtX11_along mvX11_along q1856 rfl rfl rfl (Nat.le_of_ble_eq_true rfl) (by decide) ⟨Nat.zero_le _, Nat.zero_le _⟩ dX11_goes_148) ?_
        refine jr_aload_n K dX11_goes_151 rfl ?_
        refine jr_iload_n K dX11_goes_152 rfl ?_
        refine jr_iload_n K dX11_goes_153 rfl ?_
        refine jr_iconst K dX11_goes_154 (v := (nI 0)) (by decide) ?_
        refine jr_iload K dX11_goes_155 rfl ?_
        refine jr_iload K dX11_goes_157 rfl ?_
        refine jr_iconst K dX11_goes_159 (v := (nI 0)) (by decide) ?_
        refine jr_callv0 (jrun_V (As := [.int p1, .int p2, .int (nI 0), .int x9_128, .int v78, .int (nI 0)]) (st := []) (ci := 11) K (metX11_along K.hG this p1 p2 (nI 0) x9_128 v78 (nI 0) _) mtX11_along mvX11_along q1856 rfl rfl rfl (Nat.le_of_ble_eq_true rfl) (by decide) ⟨Nat.zero_le _, Nat.zero_le _⟩ dX11_goes_160) ?_
        refine jr_iinc K (v := (x9_128 + (nI 2))) (L' := [some (.ref this), some (.int p1), some (.int p2), none, some (.int s0_19), some (.int ((nI 49) + ((nI 14) * (v3 / (nI 2))))), some (.int x6_35), some (.int v62), some (.int v78), some (.int (x9_128 + (nI 2))), none]) dX11_goes_163 rfl rfl (by decide) rfl rfl ?_
        refine jr_goto K (tgt := 128) dX11_goes_166 (by decide) ?_
        exact jr_weak (ih128 (x9_128 + (nI 2))) ⟨rfl, rfl, rfl, rfl, rfl, rfl, rfl, rfl, rfl, trivial⟩
theorem wX11_goes_35 (K : JK p l R s m args meth c D S0 A0 11 cX11_goes "MoveNotesModel" 16) (bc bs : Nat) (this : Nat) (p1 : Int32) (p2 : Int32) (Qj : JP) (v3 : Int32) (s0_19 : Int32) (hret : jRetV p l e R s m args below meth c Q D S0 11 cX11_goes Qj) : ∀ (n : Nat) (x6_35 : Int32), JR p l e R s m args below meth c Q D S0 11 bc bs (jit (FX11_goes_35 this p1 p2 Qj v3 s0_19) (fun _ => jbot) n x6_35) 35 [some (.ref this), some (.int p1), some (.int p2), none, some (.int s0_19), some (.int ((nI 49) + ((nI 14) * (v3 / (nI 2))))), some (.int x6_35), none, none, none, none] [] := by
  intro n
  induction n with
  | zero =>
    intro x6_35
    exact JR.bot
  | succ n ih35 =>
    intro x6_35
    show JR p l e R s m args below meth c Q D S0 11 bc bs (FX11_goes_35 this p1 p2 Qj v3 s0_19 (jit (FX11_goes_35 this p1 p2 Qj v3 s0_19) (fun _ => jbot) n) x6_35) 35 [some (.ref this), some (.int p1), some (.int p2), none, some (.int s0_19), some (.int ((nI 49) + ((nI 14) * (v3 / (nI 2))))), some (.int x6_35), none, none, none, none] []
    generalize jit (FX11_goes_35 this p1 p2 Qj v3 s0_19) (fun _ => jbot) n = rec35 at ih35 ⊢
    unfold FX11_goes_35
    refine jr_iload K dX11_goes_35 rfl ?_
    refine jr_aload_n K dX11_goes_37 rfl ?_
    refine jr_getA K gf_X11_13 dX11_goes_38 (fun v38 => ?_)
    refine jr_iload K dX11_goes_41 rfl ?_
    refine jr_iconst K dX11_goes_43 (v := (nI 1)) (by decide) ?_
    refine jr_iadd K dX11_goes_44 ?_
    refine jr_iald K dX11_goes_45 (fun v45 => ?_)
    refine jr_icmp_ge K (tgt := 224) dX11_goes_46 (by decide) ?_ ?_
    · exact hret _ _ _ _ dX11_goes_224
    · refine jr_aload_n K dX11_goes_49 rfl ?_
      refine jr_getA K gf_X11_13 dX11_goes_50 (fun v50 => ?_)
      refine jr_iload K dX11_goes_53 rfl ?_
      refine jr_iconst K dX11_goes_55 (v := (nI 2)) (by decide) ?_
      refine jr_iadd K dX11_goes_56 ?_
      refine jr_iconst K dX11_goes_57 (v := (nI 2)) (by decide) ?_
      refine jr_iload K dX11_goes_58 rfl ?_
      refine jr_imul K dX11_goes_60 ?_
      refine jr_iadd K dX11_goes_61 ?_
      refine jr_iald K dX11_goes_62 (fun v62 => ?_)
      refine jr_istore K (L' := [some (.ref this), some (.int p1), some (.int p2), none, some (.int s0_19), some (.int ((nI 49) + ((nI 14) * (v3 / (nI 2))))), some (.int x6_35), some (.int v62), none, none, none]) dX11_goes_63 (by decide) rfl rfl ?_
      refine jr_aload_n K dX11_goes_65 rfl ?_
      refine jr_getA K gf_X11_13 dX11_goes_66 (fun v66 => ?_)
      refine jr_iload K dX11_goes_69 rfl ?_
      refine jr_iconst K dX11_goes_71 (v := (nI 3)) (by decide) ?_
      refine jr_iadd K dX11_goes_72 ?_
      refine jr_iconst K dX11_goes_73 (v := (nI 2)) (by decide) ?_
      refine jr_iload K dX11_goes_74 rfl ?_
      refine jr_imul K dX11_goes_76 ?_
      refine jr_iadd K dX11_goes_77 ?_
      refine jr_iald K dX11_goes_78 (fun v78 => ?_)
      refine jr_istore K (L' := [some (.ref this), some (.int p1), some (.int p2), none, some (.int s0_19), some (.int ((nI 49) + ((nI 14) * (v3 / (nI 2))))), some (.int x6_35), some (.int v62), some (.int v78), none, none]) dX11_goes_79 (by decide) rfl rfl ?_
      refine jr_iload K dX11_goes_81 rfl ?_
      refine jr_iconst K dX11_goes_83 (v := (nI 2)) (by decide) ?_
      refine jr_join (fun (k99 : JP) => JR p l e R s m args below meth c Q D S0 11 bc bs k99 99 [some (.ref this), some (.int p1), some (.int p2), none, some (.int s0_19), some (.int ((nI 49) + ((nI 14) * (v3 / (nI 2))))), some (.int x6_35), some (.int v62), some (.int v78), none, none] []) ?_ (fun k99 hk99 => ?_)
      · refine jr_iload K dX11_goes_99 rfl ?_
        refine jr_iconst K dX11_goes_101 (v := (nI 3)) (by decide) ?_
        refine jr_join (fun (k111 : JP) => JR p l e R s m args below meth c Q D S0 11 bc bs k111 111 [some (.ref this), some (.int p1), some (.int p2), none, some (.int s0_19), some (.int ((nI 49) + ((nI 14) * (v3 / (nI 2))))), some (.int x6_35), some (.int v62), some (.int v78), none, none] []) ?_ (fun k111 hk111 => ?_)
        · refine jr_iload K dX11_goes_111 rfl ?_
          refine jr_iconst K dX11_goes_113 (v := (nI 4)) (by decide) ?_
          refine jr_join (fun (k125 : JP) => JR p l e R s m args below meth c Q D S0 11 bc bs k125 125 [some (.ref this), some (.int p1), some (.int p2), none, some (.int s0_19), some (.int ((nI 49) + ((nI 14) * (v3 / (nI 2))))), some (.int x6_35), some (.int v62), some (.int v78), none, none] []) ?_ (fun k125 hk125 => ?_)
          · refine jr_iconst K dX11_goes_125 (v := (-1)) (by decide) ?_
            refine jr_istore K (L' := [some (.ref this), some (.int p1), some (.int p2), none, some (.int s0_19), some (.int ((nI 49) + ((nI 14) * (v3 / (nI 2))))), some (.int x6_35), some (.int v62), some (.int v78), some (.int (-1)), none]) dX11_goes_126 (by decide) rfl rfl ?_
            refine jr_ex (fun n128 => ?_)
            refine jr_weak (wX11_goes_128 K bc bs this p1 p2 v3 s0_19 x6_35 v62 v78 _ ?_ n128 (-1)) ⟨rfl, rfl, rfl, rfl, rfl, rfl, rfl, rfl, rfl, trivial⟩
            · refine jr_iconst K dX11_goes_169 (v := (-1)) (by decide) ?_
              refine jr_istore K (L' := [some (.ref this), some (.int p1), some (.int p2), none, some (.int s0_19), some (.int ((nI 49) + ((nI 14) * (v3 / (nI 2))))), some (.int x6_35), some (.int v62), some (.int v78), some (.int (-1)), none]) dX11_goes_170 (by decide) rfl rfl ?_
              refine jr_ex (fun n172 => ?_)
              refine jr_weak (wX11_goes_172 K bc bs this p1 p2 v3 s0_19 x6_35 v62 v78 _ ?_ n172 (-1)) ⟨rfl, rfl, rfl, rfl, rfl, rfl, rfl, rfl, rfl, trivial⟩
              · refine jr_iinc K (v := (x6_35 + (nI 1))) (L' := [some (.ref this), some (.int p1), some (.int p2), none, some (.int s0_19), some (.int ((nI 49) + ((nI 14) * (v3 / (nI 2))))), some (.int (x6_35 + (nI 1))), none, none, none, none]) dX11_goes_218 rfl rfl (by decide) rfl rfl ?_
                refine jr_goto K (tgt := 35) dX11_goes_221 (by decide) ?_
                exact jr_weak (ih35 (x6_35 + (nI 1))) ⟨rfl, rfl, rfl, rfl, rfl, rfl, trivial⟩
          refine jr_icmp_ne K (tgt := 125) dX11_goes_114 (by decide) ?_ ?_
          · exact jr_weak (hk125) ⟨rfl, rfl, rfl, rfl, rfl, rfl, rfl, rfl, trivial⟩
          · refine jr_aload_n K dX11_goes_117 rfl ?_
            refine jr_iload_n K dX11_goes_118 rfl ?_
            refine jr_iload_n K dX11_goes_119 rfl ?_
            refine jr_iload K dX11_goes_120 rfl ?_
            refine jr_callv0 (jrun_V (As := [.int p1, .int p2, .int s0_19]) (st := []) (ci := 11) K (metX11_bites K.hG this p1 p2 s0_19 _) mtX11_bites mvX11_bites q1871 rfl rfl rfl (Nat.le_of_ble_eq_true rfl) (by decide) ⟨Nat.zero_le _, Nat.zero_le _⟩ dX11_goes_122) ?_
            exact jr_weak (hk125) ⟨rfl, rfl, rfl, rfl, rfl, rfl, rfl, rfl, trivial⟩
        refine jr_icmp_ne K (tgt := 111) dX11_goes_102 (by decide) ?_ ?_
        · exact jr_weak (hk111) ⟨rfl, rfl, rfl, rfl, rfl, rfl, rfl, rfl, trivial⟩
        · refine jr_aload_n K dX11_goes_105 rfl ?_
          refine jr_iload_n K dX11_goes_106 rfl ?_
          refine jr_iload_n K dX11_goes_107 rfl ?_
          refine jr_callv0 (jrun_V (As := [.int p1, .int p2]) (st := []) (ci := 11) K (metX11_leaps K.hG this p1 p2 _) mtX11_leaps mvX11_leaps q1867 rfl rfl rfl (Nat.le_of_ble_eq_true rfl) (by decide) ⟨Nat.zero_le _, Nat.zero_le _⟩ dX11_goes_108) ?_
          exact jr_weak (hk111) ⟨rfl, rfl, rfl, rfl, rfl, rfl, rfl, rfl, trivial⟩
      refine jr_icmp_ne K (tgt := 99) dX11_goes_84 (by decide) ?_ ?_
      · exact jr_weak (hk99) ⟨rfl, rfl, rfl, rfl, rfl, rfl, rfl, rfl, trivial⟩
      · refine jr_aload_n K dX11_goes_87 rfl ?_
        refine jr_iload_n K dX11_goes_88 rfl ?_
        refine jr_iload_n K dX11_goes_89 rfl ?_
        refine jr_iconst K dX11_goes_90 (v := (nI 0)) (by decide) ?_
        refine jr_iload K dX11_goes_91 rfl ?_
        refine jr_iload K dX11_goes_93 rfl ?_
        refine jr_iconst K dX11_goes_95 (v := (nI 1)) (by decide) ?_
        refine jr_callv0 (jrun_V (As := [.int p1, .int p2, .int (nI 0), .int s0_19, .int v78, .int (nI 1)]) (st := []) (ci := 11) K (metX11_along K.hG this p1 p2 (nI 0) s0_19 v78 (nI 1) _) mtX11_along mvX11_along q1856 rfl rfl rfl (Nat.le_of_ble_eq_true rfl) (by decide) ⟨Nat.zero_le _, Nat.zero_le _⟩ dX11_goes_96) ?_
        exact jr_weak (hk99) ⟨rfl, rfl, rfl, rfl, rfl, rfl, rfl, rfl, trivial⟩
theorem wX11_goes (K : JK p l R s m args meth c D S0 A0 11 cX11_goes "MoveNotesModel" 16) (bc bs : Nat) (this : Nat) (p1 : Int32) (p2 : Int32) (Qj : JP) (hret : jRetV p l e R s m args below meth c Q D S0 11 cX11_goes Qj) : JR p l e R s m args below meth c Q D S0 11 bc bs (JX11_goes this p1 p2 Qj) 0 [some (.ref this), some (.int p1), some (.int p2), none, none, none, none, none, none, none, none] [] := by
  unfold JX11_goes
  refine jr_aload_n K dX11_goes_0 rfl ?_
  refine jr_iload_n K dX11_goes_1 rfl ?_
  refine jr_iload_n K dX11_goes_2 rfl ?_
  refine jr_calli0 (jrun_V (As := [.int p1, .int p2]) (st := []) (ci := 11) K (metX11_at K.hG this p1 p2 _) mtX11_at mvX11_at q1845 rfl rfl rfl (Nat.le_of_ble_eq_true rfl) (by decide) ⟨Nat.zero_le _, Nat.zero_le _⟩ dX11_goes_3) (fun v3 => ?_)
  refine jr_istore_n K (L' := [some (.ref this), some (.int p1), some (.int p2), some (.int v3), none, none, none, none, none, none, none]) dX11_goes_6 (by decide) rfl rfl ?_
  refine jr_iload_n K dX11_goes_7 rfl ?_
  refine jr_calli0 (jrun_S (As := [.int v3]) (st := []) K (metX11_sideOf K.hG v3 _) mtX11_sideOf q1850 q1849 rfl rfl (Nat.le_of_ble_eq_true rfl) (by decide) ⟨Nat.zero_le _, Nat.zero_le _⟩ dX11_goes_8) (fun v8 => ?_)
  refine jr_join (fun (k19 : Int32 → JP) => ∀ (s0_19 : Int32), JR p l e R s m args below meth c Q D S0 11 bc bs (k19 s0_19) 19 [some (.ref this), some (.int p1), some (.int p2), some (.int v3), none, none, none, none, none, none, none] [.int s0_19]) ?_ (fun k19 hk19 => ?_)
  · intro s0_19
    refine jr_istore K (L' := [some (.ref this), some (.int p1), some (.int p2), some (.int v3), some (.int s0_19), none, none, none, none, none, none]) dX11_goes_19 (by decide) rfl rfl ?_
    refine jr_bipush K dX11_goes_21 (v := (nI 49)) (by decide) ?_
    refine jr_bipush K dX11_goes_23 (v := (nI 14)) (by decide) ?_
    refine jr_iload_n K dX11_goes_25 rfl ?_
    refine jr_iconst K dX11_goes_26 (v := (nI 2)) (by decide) ?_
    refine jr_idiv K dX11_goes_27 (by decide) ?_
    refine jr_imul K dX11_goes_28 ?_
    refine jr_iadd K dX11_goes_29 ?_
    refine jr_istore K (L' := [some (.ref this), some (.int p1), some (.int p2), some (.int v3), some (.int s0_19), some (.int ((nI 49) + ((nI 14) * (v3 / (nI 2))))), none, none, none, none, none]) dX11_goes_30 (by decide) rfl rfl ?_
    refine jr_iconst K dX11_goes_32 (v := (nI 0)) (by decide) ?_
    refine jr_istore K (L' := [some (.ref this), some (.int p1), some (.int p2), some (.int v3), some (.int s0_19), some (.int ((nI 49) + ((nI 14) * (v3 / (nI 2))))), some (.int (nI 0)), none, none, none, none]) dX11_goes_33 (by decide) rfl rfl ?_
    refine jr_ex (fun n35 => ?_)
    refine jr_weak (wX11_goes_35 K bc bs this p1 p2 Qj v3 s0_19 hret n35 (nI 0)) ⟨rfl, rfl, rfl, rfl, rfl, rfl, trivial⟩
  refine jr_if_ne K (tgt := 18) dX11_goes_11 (by decide) ?_ ?_
  · refine jr_iconst K dX11_goes_18 (v := (-1)) (by decide) ?_
    exact jr_weak (hk19 (-1)) ⟨rfl, rfl, rfl, rfl, trivial⟩
  · refine jr_iconst K dX11_goes_14 (v := (nI 1)) (by decide) ?_
    refine jr_goto K (tgt := 19) dX11_goes_15 (by decide) ?_
    exact jr_weak (hk19 (nI 1)) ⟨rfl, rfl, rfl, rfl, trivial⟩
theorem metX11_goes (hG : jG l D S0 A0) (this : Nat) (p1 : Int32) (p2 : Int32) (Qj : JP) : Met l yX11_goes (ws_ yX11_goes cX11_goes 11 none) (jrm 16 0 0) (va_Pc [.ref this, .int p1, .int p2] (jB D S0 (JX11_goes this p1 p2 Qj))) (va_Qv Qj (fun σ t => jRep D S0.heap.size σ t.heap) (jA S0)) 0 0 (jA S0) :=
  jr_start hG (by decide) (Nat.le_of_ble_eq_true rfl) rfl fun p e s m below meth c K hr hn => wX11_goes K _ _ this p1 p2 Qj (fun _ _ _ _ d => jr_vret K hr d)
theorem wX11_finds_30 (K : JK p l R s m args meth c D S0 A0 4 cX11_finds "MoveNotesModel" 17) (bc bs : Nat) (this : Nat) (p1 : Int32) (p2 : Int32) (Qj : JP) (hret : jRetV p l e R s m args below meth c Q D S0 4 cX11_finds Qj) : ∀ (n : Nat) (x3_30 : Int32), JR p l e R s m args below meth c Q D S0 4 bc bs (jit (FX11_finds_30 this p1 p2 Qj) (fun _ => jbot) n x3_30) 30 [some (.ref this), some (.int p1), some (.int p2), some (.int x3_30)] [] := by
  intro n
  induction n with
  | zero =>
    intro x3_30
    exact JR.bot
  | succ n ih30 =>
    intro x3_30
    show JR p l e R s m args below meth c Q D S0 4 bc bs (FX11_finds_30 this p1 p2 Qj (jit (FX11_finds_30 this p1 p2 Qj) (fun _ => jbot) n) x3_30) 30 [some (.ref this), some (.int p1), some (.int p2), some (.int x3_30)] []
    generalize jit (FX11_finds_30 this p1 p2 Qj) (fun _ => jbot) n = rec30 at ih30 ⊢
    unfold FX11_finds_30
    refine jr_iload_n K dX11_finds_30 rfl ?_
    refine jr_bipush K dX11_finds_31 (v := (nI 36)) (by decide) ?_
    refine jr_icmp_ge K (tgt := 70) dX11_finds_33 (by decide) ?_ ?_
    · exact hret _ _ _ _ dX11_finds_70
    · refine jr_aload_n K dX11_finds_36 rfl ?_
      refine jr_iload_n K dX11_finds_37 rfl ?_
      refine jr_iload_n K dX11_finds_38 rfl ?_
      refine jr_calli0 (jrun_V (As := [.int p1, .int x3_30]) (st := []) (ci := 11) K (metX11_at K.hG this p1 x3_30 _) mtX11_at mvX11_at q1845 rfl rfl rfl (Nat.le_of_ble_eq_true rfl) (by decide) ⟨Nat.zero_le _, Nat.zero_le _⟩ dX11_finds_39) (fun v39 => ?_)
      refine jr_join (fun (k64 : JP) => JR p l e R s m args below meth c Q D S0 4 bc bs k64 64 [some (.ref this), some (.int p1), some (.int p2), some (.int x3_30)] []) ?_ (fun k64 hk64 => ?_)
      · refine jr_iinc K (v := (x3_30 + (nI 1))) (L' := [some (.ref this), some (.int p1), some (.int p2), some (.int (x3_30 + (nI 1)))]) dX11_finds_64 rfl rfl (by decide) rfl rfl ?_
        refine jr_goto K (tgt := 30) dX11_finds_67 (by decide) ?_
        exact jr_weak (ih30 (x3_30 + (nI 1))) ⟨rfl, rfl, rfl, rfl, trivial⟩
      refine jr_if_lt K (tgt := 64) dX11_finds_42 (by decide) ?_ ?_
      · exact jr_weak (hk64) ⟨rfl, rfl, rfl, rfl, trivial⟩
      · refine jr_aload_n K dX11_finds_45 rfl ?_
        refine jr_iload_n K dX11_finds_46 rfl ?_
        refine jr_iload_n K dX11_finds_47 rfl ?_
        refine jr_calli0 (jrun_V (As := [.int p1, .int x3_30]) (st := []) (ci := 11) K (metX11_at K.hG this p1 x3_30 _) mtX11_at mvX11_at q1845 rfl rfl rfl (Nat.le_of_ble_eq_true rfl) (by decide) ⟨Nat.zero_le _, Nat.zero_le _⟩ dX11_finds_48) (fun v48 => ?_)
        refine jr_calli0 (jrun_S (As := [.int v48]) (st := []) K (metX11_sideOf K.hG v48 _) mtX11_sideOf q1850 q1849 rfl rfl (Nat.le_of_ble_eq_true rfl) (by decide) ⟨Nat.zero_le _, Nat.zero_le _⟩ dX11_finds_51) (fun v51 => ?_)
        refine jr_iload_n K dX11_finds_54 rfl ?_
        refine jr_icmp_ne K (tgt := 64) dX11_finds_55 (by decide) ?_ ?_
        · exact jr_weak (hk64) ⟨rfl, rfl, rfl, rfl, trivial⟩
        · refine jr_aload_n K dX11_finds_58 rfl ?_
          refine jr_iload_n K dX11_finds_59 rfl ?_
          refine jr_iload_n K dX11_finds_60 rfl ?_
          refine jr_callv0 (jrun_V (As := [.int p1, .int x3_30]) (st := []) (ci := 11) K (metX11_goes K.hG this p1 x3_30 _) mtX11_goes mvX11_goes q1852 rfl rfl rfl (Nat.le_of_ble_eq_true rfl) (by decide) ⟨Nat.zero_le _, Nat.zero_le _⟩ dX11_finds_61) ?_
          exact jr_weak (hk64) ⟨rfl, rfl, rfl, rfl, trivial⟩
theorem wX11_finds_2 (K : JK p l R s m args meth c D S0 A0 4 cX11_finds "MoveNotesModel" 17) (bc bs : Nat) (this : Nat) (p1 : Int32) (p2 : Int32) (k28 : JP) (hk28 : JR p l e R s m args below meth c Q D S0 4 bc bs k28 28 [some (.ref this), some (.int p1), some (.int p2), none] []) : ∀ (n : Nat) (x3_2 : Int32), JR p l e R s m args below meth c Q D S0 4 bc bs (jit (FX11_finds_2 this p1 k28) (fun _ => jbot) n x3_2) 2 [some (.ref this), some (.int p1), some (.int p2), some (.int x3_2)] [] := by
  intro n
  induction n with
  | zero =>
    intro x3_2
    exact JR.bot
  | succ n ih2 =>
    intro x3_2
    show JR p l e R s m args below meth c Q D S0 4 bc bs (FX11_finds_2 this p1 k28 (jit (FX11_finds_2 this p1 k28) (fun _ => jbot) n) x3_2) 2 [some (.ref this), some (.int p1), some (.int p2), some (.int x3_2)] []
    generalize jit (FX11_finds_2 this p1 k28) (fun _ => jbot) n = rec2 at ih2 ⊢
    unfold FX11_finds_2
    refine jr_iload_n K dX11_finds_2 rfl ?_
    refine jr_sipush K dX11_finds_3 (v := (nI 1296)) (by decide) ?_
    refine jr_icmp_ge K (tgt := 28) dX11_finds_6 (by decide) ?_ ?_
    · exact jr_weak (hk28) ⟨rfl, rfl, rfl, trivial⟩
    · refine jr_aload_n K dX11_finds_9 rfl ?_
      refine jr_getA K gf_X11_43 dX11_finds_10 (fun v10 => ?_)
      refine jr_sipush K dX11_finds_13 (v := (nI 1296)) (by decide) ?_
      refine jr_iload_n K dX11_finds_16 rfl ?_
      refine jr_imul K dX11_finds_17 ?_
      refine jr_iload_n K dX11_finds_18 rfl ?_
      refine jr_iadd K dX11_finds_19 ?_
      refine jr_iconst K dX11_finds_20 (v := (nI 0)) (by decide) ?_
      refine jr_zast K dX11_finds_21 ?_
      refine jr_iinc K (v := (x3_2 + (nI 1))) (L' := [some (.ref this), some (.int p1), some (.int p2), some (.int (x3_2 + (nI 1)))]) dX11_finds_22 rfl rfl (by decide) rfl rfl ?_
      refine jr_goto K (tgt := 2) dX11_finds_25 (by decide) ?_
      exact jr_weak (ih2 (x3_2 + (nI 1))) ⟨rfl, rfl, rfl, rfl, trivial⟩
theorem wX11_finds (K : JK p l R s m args meth c D S0 A0 4 cX11_finds "MoveNotesModel" 17) (bc bs : Nat) (this : Nat) (p1 : Int32) (p2 : Int32) (Qj : JP) (hret : jRetV p l e R s m args below meth c Q D S0 4 cX11_finds Qj) : JR p l e R s m args below meth c Q D S0 4 bc bs (JX11_finds this p1 p2 Qj) 0 [some (.ref this), some (.int p1), some (.int p2), none] [] := by
  unfold JX11_finds
  refine jr_iconst K dX11_finds_0 (v := (nI 0)) (by decide) ?_
  refine jr_istore_n K (L' := [some (.ref this), some (.int p1), some (.int p2), some (.int (nI 0))]) dX11_finds_1 (by decide) rfl rfl ?_
  refine jr_ex (fun n2 => ?_)
  refine jr_weak (wX11_finds_2 K bc bs this p1 p2 _ ?_ n2 (nI 0)) ⟨rfl, rfl, rfl, rfl, trivial⟩
  · refine jr_iconst K dX11_finds_28 (v := (nI 0)) (by decide) ?_
    refine jr_istore_n K (L' := [some (.ref this), some (.int p1), some (.int p2), some (.int (nI 0))]) dX11_finds_29 (by decide) rfl rfl ?_
    refine jr_ex (fun n30 => ?_)
    refine jr_weak (wX11_finds_30 K bc bs this p1 p2 Qj hret n30 (nI 0)) ⟨rfl, rfl, rfl, rfl, trivial⟩
theorem metX11_finds (hG : jG l D S0 A0) (this : Nat) (p1 : Int32) (p2 : Int32) (Qj : JP) : Met l yX11_finds (ws_ yX11_finds cX11_finds 4 none) (jrm 17 0 0) (va_Pc [.ref this, .int p1, .int p2] (jB D S0 (JX11_finds this p1 p2 Qj))) (va_Qv Qj (fun σ t => jRep D S0.heap.size σ t.heap) (jA S0)) 0 0 (jA S0) :=
  jr_start hG (by decide) (Nat.le_of_ble_eq_true rfl) rfl fun p e s m below meth c K hr hn => wX11_finds K _ _ this p1 p2 Qj (fun _ _ _ _ d => jr_vret K hr d)
theorem wX11_manyAt_4 (K : JK p l R s m args meth c D S0 A0 4 cX11_manyAt "MoveNotesModel" 12) (bc bs : Nat) (this : Nat) (p1 : Int32) (Qj : Int32 → JP) (hret : jRetI p l e R s m args below meth c Q D S0 4 cX11_manyAt Qj) : ∀ (n : Nat) (x2_4 : Int32) (x3_4 : Int32), JR p l e R s m args below meth c Q D S0 4 bc bs (jit (FX11_manyAt_4 this p1 Qj) (fun _ _ => jbot) n x2_4 x3_4) 4 [some (.ref this), some (.int p1), some (.int x2_4), some (.int x3_4)] [] := by
  intro n
  induction n with
  | zero =>
    intro x2_4 x3_4
    exact JR.bot
  | succ n ih4 =>
    intro x2_4 x3_4
    show JR p l e R s m args below meth c Q D S0 4 bc bs (FX11_manyAt_4 this p1 Qj (jit (FX11_manyAt_4 this p1 Qj) (fun _ _ => jbot) n) x2_4 x3_4) 4 [some (.ref this), some (.int p1), some (.int x2_4), some (.int x3_4)] []
    generalize jit (FX11_manyAt_4 this p1 Qj) (fun _ _ => jbot) n = rec4 at ih4 ⊢
    unfold FX11_manyAt_4
    refine jr_iload_n K dX11_manyAt_4 rfl ?_
    refine jr_sipush K dX11_manyAt_5 (v := (nI 1296)) (by decide) ?_
    refine jr_icmp_ge K (tgt := 40) dX11_manyAt_8 (by decide) ?_ ?_
    · refine jr_iload_n K dX11_manyAt_40 rfl ?_
      exact hret _ _ _ _ _ dX11_manyAt_41
    · refine jr_iload_n K dX11_manyAt_11 rfl ?_
      refine jr_aload_n K dX11_manyAt_12 rfl ?_
      refine jr_getA K gf_X11_43 dX11_manyAt_13 (fun v13 => ?_)
      refine jr_sipush K dX11_manyAt_16 (v := (nI 1296)) (by decide) ?_
      refine jr_iload_n K dX11_manyAt_19 rfl ?_
      refine jr_imul K dX11_manyAt_20 ?_
      refine jr_iload_n K dX11_manyAt_21 rfl ?_
      refine jr_iadd K dX11_manyAt_22 ?_
      refine jr_zald K dX11_manyAt_23 (fun v23 => ?_)
      refine jr_join (fun (k32 : Int32 → JP) => ∀ (s1_32 : Int32), JR p l e R s m args below meth c Q D S0 4 bc bs (k32 s1_32) 32 [some (.ref this), some (.int p1), none, some (.int x3_4)] [.int s1_32, .int x2_4]) ?_ (fun k32 hk32 => ?_)
      · intro s1_32
        refine jr_iadd K dX11_manyAt_32 ?_
        refine jr_istore_n K (L' := [some (.ref this), some (.int p1), some (.int (x2_4 + s1_32)), some (.int x3_4)]) dX11_manyAt_33 (by decide) rfl rfl ?_
        refine jr_iinc K (v := (x3_4 + (nI 1))) (L' := [some (.ref this), some (.int p1), some (.int (x2_4 + s1_32)), some (.int (x3_4 + (nI 1)))]) dX11_manyAt_34 rfl rfl (by decide) rfl rfl ?_
        refine jr_goto K (tgt := 4) dX11_manyAt_37 (by decide) ?_
        exact jr_weak (ih4 (x2_4 + s1_32) (x3_4 + (nI 1))) ⟨rfl, rfl, rfl, rfl, trivial⟩
      refine jr_if_eq K (tgt := 31) dX11_manyAt_24 (by decide) ?_ ?_
      · refine jr_iconst K dX11_manyAt_31 (v := (nI 0)) (by decide) ?_
        exact jr_weak (hk32 (nI 0)) ⟨rfl, rfl, rfl, trivial⟩
      · refine jr_iconst K dX11_manyAt_27 (v := (nI 1)) (by decide) ?_
        refine jr_goto K (tgt := 32) dX11_manyAt_28 (by decide) ?_
        exact jr_weak (hk32 (nI 1)) ⟨rfl, rfl, rfl, trivial⟩
theorem wX11_manyAt (K : JK p l R s m args meth c D S0 A0 4 cX11_manyAt "MoveNotesModel" 12) (bc bs : Nat) (this : Nat) (p1 : Int32) (Qj : Int32 → JP) (hret : jRetI p l e R s m args below meth c Q D S0 4 cX11_manyAt Qj) : JR p l e R s m args below meth c Q D S0 4 bc bs (JX11_manyAt this p1 Qj) 0 [some (.ref this), some (.int p1), none, none] [] := by
  unfold JX11_manyAt
  refine jr_iconst K dX11_manyAt_0 (v := (nI 0)) (by decide) ?_
  refine jr_istore_n K (L' := [some (.ref this), some (.int p1), some (.int (nI 0)), none]) dX11_manyAt_1 (by decide) rfl rfl ?_
  refine jr_iconst K dX11_manyAt_2 (v := (nI 0)) (by decide) ?_
  refine jr_istore_n K (L' := [some (.ref this), some (.int p1), some (.int (nI 0)), some (.int (nI 0))]) dX11_manyAt_3 (by decide) rfl rfl ?_
  refine jr_ex (fun n4 => ?_)
  refine jr_weak (wX11_manyAt_4 K bc bs this p1 Qj hret n4 (nI 0) (nI 0)) ⟨rfl, rfl, rfl, rfl, trivial⟩
theorem metX11_manyAt (hG : jG l D S0 A0) (this : Nat) (p1 : Int32) (Qj : Int32 → JP) : Met l yX11_manyAt (ws_ yX11_manyAt cX11_manyAt 4 (some .int)) (jrm 12 0 0) (va_Pc [.ref this, .int p1] (jB D S0 (JX11_manyAt this p1 Qj))) (va_Qi Qj (fun σ t => jRep D S0.heap.size σ t.heap) (jA S0)) 0 0 (jA S0) :=
  jr_start hG (by decide) (Nat.le_of_ble_eq_true rfl) rfl fun p e s m below meth c K hr hn => wX11_manyAt K _ _ this p1 Qj (fun _ _ _ _ _ d => jr_iret K hr rfl d)
theorem wX11_moveAt_5 (K : JK p l R s m args meth c D S0 A0 5 cX11_moveAt "MoveNotesModel" 12) (bc bs : Nat) (this : Nat) (p1 : Int32) (Qj : Int32 → JP) (hret : jRetI p l e R s m args below meth c Q D S0 5 cX11_moveAt Qj) : ∀ (n : Nat) (x3_5 : Int32) (x4_5 : Int32), JR p l e R s m args below meth c Q D S0 5 bc bs (jit (FX11_moveAt_5 this p1 Qj) (fun _ _ => jbot) n x3_5 x4_5) 5 [some (.ref this), some (.int p1), none, some (.int x3_5), some (.int x4_5)] [] := by
  intro n
  induction n with
  | zero =>
    intro x3_5 x4_5
    exact JR.bot
  | succ n ih5 =>
    intro x3_5 x4_5
    show JR p l e R s m args below meth c Q D S0 5 bc bs (FX11_moveAt_5 this p1 Qj (jit (FX11_moveAt_5 this p1 Qj) (fun _ _ => jbot) n) x3_5 x4_5) 5 [some (.ref this), some (.int p1), none, some (.int x3_5), some (.int x4_5)] []
    generalize jit (FX11_moveAt_5 this p1 Qj) (fun _ _ => jbot) n = rec5 at ih5 ⊢
    unfold FX11_moveAt_5
    refine jr_iload K dX11_moveAt_5 rfl ?_
    refine jr_sipush K dX11_moveAt_7 (v := (nI 1296)) (by decide) ?_
    refine jr_icmp_ge K (tgt := 48) dX11_moveAt_10 (by decide) ?_ ?_
    · refine jr_iconst K dX11_moveAt_48 (v := (-1)) (by decide) ?_
      exact hret _ _ _ _ _ dX11_moveAt_49
    · refine jr_aload_n K dX11_moveAt_13 rfl ?_
      refine jr_getA K gf_X11_43 dX11_moveAt_14 (fun v14 => ?_)
      refine jr_sipush K dX11_moveAt_17 (v := (nI 1296)) (by decide) ?_
      refine jr_iload_n K dX11_moveAt_20 rfl ?_
      refine jr_imul K dX11_moveAt_21 ?_
      refine jr_iload K dX11_moveAt_22 rfl ?_
      refine jr_iadd K dX11_moveAt_24 ?_
      refine jr_zald K dX11_moveAt_25 (fun v25 => ?_)
      refine jr_join (fun (k42 : Int32 → JP) => ∀ (x3_42 : Int32), JR p l e R s m args below meth c Q D S0 5 bc bs (k42 x3_42) 42 [some (.ref this), some (.int p1), none, some (.int x3_42), some (.int x4_5)] []) ?_ (fun k42 hk42 => ?_)
      · intro x3_42
        refine jr_iinc K (v := (x4_5 + (nI 1))) (L' := [some (.ref this), some (.int p1), none, some (.int x3_42), some (.int (x4_5 + (nI 1)))]) dX11_moveAt_42 rfl rfl (by decide) rfl rfl ?_
        refine jr_goto K (tgt := 5) dX11_moveAt_45 (by decide) ?_
        exact jr_weak (ih5 x3_42 (x4_5 + (nI 1))) ⟨rfl, rfl, rfl, rfl, trivial⟩
      refine jr_if_ne K (tgt := 32) dX11_moveAt_26 (by decide) ?_ ?_
      · refine jr_iload_n K dX11_moveAt_32 rfl ?_
        refine jr_if_ne K (tgt := 39) dX11_moveAt_33 (by decide) ?_ ?_
        · refine jr_iinc K (v := (x3_5 + (-1))) (L' := [some (.ref this), some (.int p1), none, some (.int (x3_5 + (-1))), some (.int x4_5)]) dX11_moveAt_39 rfl rfl (by decide) rfl rfl ?_
          exact jr_weak (hk42 (x3_5 + (-1))) ⟨rfl, rfl, rfl, rfl, trivial⟩
        · refine jr_iload K dX11_moveAt_36 rfl ?_
          exact hret _ _ _ _ _ dX11_moveAt_38
      · refine jr_goto K (tgt := 42) dX11_moveAt_29 (by decide) ?_
        exact jr_weak (hk42 x3_5) ⟨rfl, rfl, rfl, rfl, trivial⟩
theorem wX11_moveAt (K : JK p l R s m args meth c D S0 A0 5 cX11_moveAt "MoveNotesModel" 12) (bc bs : Nat) (this : Nat) (p1 : Int32) (p2 : Int32) (Qj : Int32 → JP) (hret : jRetI p l e R s m args below meth c Q D S0 5 cX11_moveAt Qj) : JR p l e R s m args below meth c Q D S0 5 bc bs (JX11_moveAt this p1 p2 Qj) 0 [some (.ref this), some (.int p1), some (.int p2), none, none] [] := by
  unfold JX11_moveAt
  refine jr_iload_n K dX11_moveAt_0 rfl ?_
  refine jr_istore_n K (L' := [some (.ref this), some (.int p1), some (.int p2), some (.int p2), none]) dX11_moveAt_1 (by decide) rfl rfl ?_
  refine jr_iconst K dX11_moveAt_2 (v := (nI 0)) (by decide) ?_
  refine jr_istore K (L' := [some (.ref this), some (.int p1), some (.int p2), some (.int p2), some (.int (nI 0))]) dX11_moveAt_3 (by decide) rfl rfl ?_
  refine jr_ex (fun n5 => ?_)
  refine jr_weak (wX11_moveAt_5 K bc bs this p1 Qj hret n5 p2 (nI 0)) ⟨rfl, rfl, rfl, rfl, trivial⟩
theorem metX11_moveAt (hG : jG l D S0 A0) (this : Nat) (p1 : Int32) (p2 : Int32) (Qj : Int32 → JP) : Met l yX11_moveAt (ws_ yX11_moveAt cX11_moveAt 5 (some .int)) (jrm 12 0 0) (va_Pc [.ref this, .int p1, .int p2] (jB D S0 (JX11_moveAt this p1 p2 Qj))) (va_Qi Qj (fun σ t => jRep D S0.heap.size σ t.heap) (jA S0)) 0 0 (jA S0) :=
  jr_start hG (by decide) (Nat.le_of_ble_eq_true rfl) rfl fun p e s m below meth c K hr hn => wX11_moveAt K _ _ this p1 p2 Qj (fun _ _ _ _ _ d => jr_iret K hr rfl d)
theorem wX11_moves (K : JK p l R s m args meth c D S0 A0 3 cX11_moves "MoveNotesModel" 18) (bc bs : Nat) (this : Nat) (p1 : Int32) (p2 : Int32) (Qj : Int32 → JP) (hret : jRetI p l e R s m args below meth c Q D S0 3 cX11_moves Qj) : JR p l e R s m args below meth c Q D S0 3 bc bs (JX11_moves this p1 p2 Qj) 0 [some (.ref this), some (.int p1), some (.int p2)] [] := by
  unfold JX11_moves
  refine jr_aload_n K dX11_moves_0 rfl ?_
  refine jr_iconst K dX11_moves_1 (v := (nI 0)) (by decide) ?_
  refine jr_put K pf_X11_3 dX11_moves_2 rfl rfl ?_
  refine jr_aload_n K dX11_moves_5 rfl ?_
  refine jr_iload_n K dX11_moves_6 rfl ?_
  refine jr_iconst K dX11_moves_7 (v := (nI 0)) (by decide) ?_
  refine jr_iconst K dX11_moves_8 (v := (nI 1)) (by decide) ?_
  refine jr_calli0 (jrun_S (As := [.int p1, .int (nI 0), .int (nI 1)]) (st := [.ref this]) K (metX11_in K.hG p1 (nI 0) (nI 1) _) mtX11_in q1746 q1745 rfl rfl (Nat.le_of_ble_eq_true rfl) (by decide) ⟨Nat.zero_le _, Nat.zero_le _⟩ dX11_moves_9) (fun v9 => ?_)
  refine jr_join (fun (k25 : Int32 → JP) => ∀ (s1_25 : Int32), JR p l e R s m args below meth c Q D S0 3 bc bs (k25 s1_25) 25 [some (.ref this), some (.int p1), some (.int p2)] [.int s1_25, .ref this]) ?_ (fun k25 hk25 => ?_)
  · intro s1_25
    refine jr_iconst K dX11_moves_25 (v := (nI 1)) (by decide) ?_
    refine jr_calli0 (jrun_V (As := [.int s1_25, .int (nI 1)]) (st := []) (ci := 11) K (metX11_throwsIf K.hG this s1_25 (nI 1) _) mtX11_throwsIf mvX11_throwsIf q1748 rfl rfl rfl (Nat.le_of_ble_eq_true rfl) (by decide) ⟨Nat.zero_le _, Nat.zero_le _⟩ dX11_moves_26) (fun v26 => ?_)
    refine jr_if_eq K (tgt := 34) dX11_moves_29 (by decide) ?_ ?_
    · refine jr_aload_n K dX11_moves_34 rfl ?_
      refine jr_callv0 (jrun_V (As := []) (st := []) (ci := 11) K (metX11_begins K.hG this _) mtX11_begins mvX11_begins q1837 rfl rfl rfl (Nat.le_of_ble_eq_true rfl) (by decide) ⟨Nat.zero_le _, Nat.zero_le _⟩ dX11_moves_35) ?_
      refine jr_aload_n K dX11_moves_38 rfl ?_
      refine jr_iconst K dX11_moves_39 (v := (nI 0)) (by decide) ?_
      refine jr_iload_n K dX11_moves_40 rfl ?_
      refine jr_callv0 (jrun_V (As := [.int (nI 0), .int p1]) (st := []) (ci := 11) K (metX11_finds K.hG this (nI 0) p1 _) mtX11_finds mvX11_finds q1841 rfl rfl rfl (Nat.le_of_ble_eq_true rfl) (by decide) ⟨Nat.zero_le _, Nat.zero_le _⟩ dX11_moves_41) ?_
      refine jr_iload_n K dX11_moves_44 rfl ?_
      refine jr_if_ge K (tgt := 56) dX11_moves_45 (by decide) ?_ ?_
      · refine jr_aload_n K dX11_moves_56 rfl ?_
        refine jr_iconst K dX11_moves_57 (v := (nI 0)) (by decide) ?_
        refine jr_iload_n K dX11_moves_58 rfl ?_
        refine jr_calli0 (jrun_V (As := [.int (nI 0), .int p2]) (st := []) (ci := 11) K (metX11_moveAt K.hG this (nI 0) p2 _) mtX11_moveAt mvX11_moveAt q1879 rfl rfl rfl (Nat.le_of_ble_eq_true rfl) (by decide) ⟨Nat.zero_le _, Nat.zero_le _⟩ dX11_moves_59) (fun v59 => ?_)
        exact hret _ _ _ _ _ dX11_moves_62
      · refine jr_aload_n K dX11_moves_48 rfl ?_
        refine jr_iconst K dX11_moves_49 (v := (nI 0)) (by decide) ?_
        refine jr_calli0 (jrun_V (As := [.int (nI 0)]) (st := []) (ci := 11) K (metX11_manyAt K.hG this (nI 0) _) mtX11_manyAt mvX11_manyAt q1875 rfl rfl rfl (Nat.le_of_ble_eq_true rfl) (by decide) ⟨Nat.zero_le _, Nat.zero_le _⟩ dX11_moves_50) (fun v50 => ?_)
        refine jr_goto K (tgt := 62) dX11_moves_53 (by decide) ?_
        exact hret _ _ _ _ _ dX11_moves_62
    · refine jr_iconst K dX11_moves_32 (v := (nI 0)) (by decide) ?_
      exact hret _ _ _ _ _ dX11_moves_33
  refine jr_join (fun (k20 : JP) => JR p l e R s m args below meth c Q D S0 3 bc bs k20 20 [some (.ref this), some (.int p1), some (.int p2)] [.ref this]) ?_ (fun k20 hk20 => ?_)
  · refine jr_iconst K dX11_moves_20 (v := (nI 1)) (by decide) ?_
    refine jr_goto K (tgt := 25) dX11_moves_21 (by decide) ?_
    exact jr_weak (hk25 (nI 1)) ⟨rfl, rfl, rfl, trivial⟩
  refine jr_if_eq K (tgt := 20) dX11_moves_12 (by decide) ?_ ?_
  · exact jr_weak (hk20) ⟨rfl, rfl, rfl, trivial⟩
  · refine jr_iload_n K dX11_moves_15 rfl ?_
    refine jr_iconst K dX11_moves_16 (v := (-1)) (by decide) ?_
    refine jr_icmp_ge K (tgt := 24) dX11_moves_17 (by decide) ?_ ?_
    · refine jr_iconst K dX11_moves_24 (v := (nI 0)) (by decide) ?_
      exact jr_weak (hk25 (nI 0)) ⟨rfl, rfl, rfl, trivial⟩
    · exact jr_weak (hk20) ⟨rfl, rfl, rfl, trivial⟩
theorem metX11_moves (hG : jG l D S0 A0) (this : Nat) (p1 : Int32) (p2 : Int32) (Qj : Int32 → JP) : Met l yX11_moves (ws_ yX11_moves cX11_moves 3 (some .int)) (jrm 18 0 0) (va_Pc [.ref this, .int p1, .int p2] (jB D S0 (JX11_moves this p1 p2 Qj))) (va_Qi Qj (fun σ t => jRep D S0.heap.size σ t.heap) (jA S0)) 0 0 (jA S0) :=
  jr_start hG (by decide) (Nat.le_of_ble_eq_true rfl) rfl fun p e s m below meth c K hr hn => wX11_moves K _ _ this p1 p2 Qj (fun _ _ _ _ _ d => jr_iret K hr rfl d)
theorem wX11_book (K : JK p l R s m args meth c D S0 A0 3 cX11_book "MoveNotesModel" 13) (bc bs : Nat) (this : Nat) (p1 : Int32) (Qj : Int32 → JP) (hret : jRetI p l e R s m args below meth c Q D S0 3 cX11_book Qj) : JR p l e R s m args below meth c Q D S0 3 bc bs (JX11_book this p1 Qj) 0 [some (.ref this), some (.int p1), none] [] := by
  unfold JX11_book
  refine jr_aload_n K dX11_book_0 rfl ?_
  refine jr_iconst K dX11_book_1 (v := (nI 0)) (by decide) ?_
  refine jr_put K pf_X11_3 dX11_book_2 rfl rfl ?_
  refine jr_aload_n K dX11_book_5 rfl ?_
  refine jr_iload_n K dX11_book_6 rfl ?_
  refine jr_iconst K dX11_book_7 (v := (nI 0)) (by decide) ?_
  refine jr_iconst K dX11_book_8 (v := (nI 1)) (by decide) ?_
  refine jr_calli0 (jrun_S (As := [.int p1, .int (nI 0), .int (nI 1)]) (st := [.ref this]) K (metX11_in K.hG p1 (nI 0) (nI 1) _) mtX11_in q1746 q1745 rfl rfl (Nat.le_of_ble_eq_true rfl) (by decide) ⟨Nat.zero_le _, Nat.zero_le _⟩ dX11_book_9) (fun v9 => ?_)
  refine jr_join (fun (k20 : Int32 → JP) => ∀ (s1_20 : Int32), JR p l e R s m args below meth c Q D S0 3 bc bs (k20 s1_20) 20 [some (.ref this), some (.int p1), none] [.int s1_20, .ref this]) ?_ (fun k20 hk20 => ?_)
  · intro s1_20
    refine jr_iconst K dX11_book_20 (v := (nI 1)) (by decide) ?_
    refine jr_calli0 (jrun_V (As := [.int s1_20, .int (nI 1)]) (st := []) (ci := 11) K (metX11_throwsIf K.hG this s1_20 (nI 1) _) mtX11_throwsIf mvX11_throwsIf q1748 rfl rfl rfl (Nat.le_of_ble_eq_true rfl) (by decide) ⟨Nat.zero_le _, Nat.zero_le _⟩ dX11_book_21) (fun v21 => ?_)
    refine jr_if_ne K (tgt := 50) dX11_book_24 (by decide) ?_ ?_
    · refine jr_iconst K dX11_book_50 (v := (nI 0)) (by decide) ?_
      exact hret _ _ _ _ _ dX11_book_51
    · refine jr_aload_n K dX11_book_27 rfl ?_
      refine jr_aload_n K dX11_book_28 rfl ?_
      refine jr_getA K gf_X11_13 dX11_book_29 (fun v29 => ?_)
      refine jr_iconst K dX11_book_32 (v := (nI 1)) (by decide) ?_
      refine jr_iald K dX11_book_33 (fun v33 => ?_)
      refine jr_iconst K dX11_book_34 (v := (nI 3)) (by decide) ?_
      refine jr_join (fun (k43 : Int32 → JP) => ∀ (s1_43 : Int32), JR p l e R s m args below meth c Q D S0 3 bc bs (k43 s1_43) 43 [some (.ref this), some (.int p1), none] [.int s1_43, .ref this]) ?_ (fun k43 hk43 => ?_)
      · intro s1_43
        refine jr_iconst K dX11_book_43 (v := (nI 2)) (by decide) ?_
        refine jr_calli0 (jrun_V (As := [.int s1_43, .int (nI 2)]) (st := []) (ci := 11) K (metX11_throwsIf K.hG this s1_43 (nI 2) _) mtX11_throwsIf mvX11_throwsIf q1748 rfl rfl rfl (Nat.le_of_ble_eq_true rfl) (by decide) ⟨Nat.zero_le _, Nat.zero_le _⟩ dX11_book_44) (fun v44 => ?_)
        refine jr_if_eq K (tgt := 52) dX11_book_47 (by decide) ?_ ?_
        · refine jr_aload_n K dX11_book_52 rfl ?_
          refine jr_getA K gf_X11_13 dX11_book_53 (fun v53 => ?_)
          refine jr_iconst K dX11_book_56 (v := (nI 1)) (by decide) ?_
          refine jr_iald K dX11_book_57 (fun v57 => ?_)
          refine jr_istore_n K (L' := [some (.ref this), some (.int p1), some (.int v57)]) dX11_book_58 (by decide) rfl rfl ?_
          refine jr_aload_n K dX11_book_59 rfl ?_
          refine jr_getA K gf_X11_13 dX11_book_60 (fun v60 => ?_)
          refine jr_bipush K dX11_book_63 (v := (nI 119)) (by decide) ?_
          refine jr_bipush K dX11_book_65 (v := (nI 98)) (by decide) ?_
          refine jr_iload_n K dX11_book_67 rfl ?_
          refine jr_imul K dX11_book_68 ?_
          refine jr_iadd K dX11_book_69 ?_
          refine jr_iload_n K dX11_book_70 rfl ?_
          refine jr_iast K dX11_book_71 ?_
          refine jr_aload_n K dX11_book_72 rfl ?_
          refine jr_getA K gf_X11_13 dX11_book_73 (fun v73 => ?_)
          refine jr_bipush K dX11_book_76 (v := (nI 119)) (by decide) ?_
          refine jr_bipush K dX11_book_78 (v := (nI 98)) (by decide) ?_
          refine jr_iload_n K dX11_book_80 rfl ?_
          refine jr_imul K dX11_book_81 ?_
          refine jr_iadd K dX11_book_82 ?_
          refine jr_iconst K dX11_book_83 (v := (nI 1)) (by decide) ?_
          refine jr_iadd K dX11_book_84 ?_
          refine jr_iconst K dX11_book_85 (v := (nI 0)) (by decide) ?_
          refine jr_iast K dX11_book_86 ?_
          refine jr_aload_n K dX11_book_87 rfl ?_
          refine jr_getA K gf_X11_13 dX11_book_88 (fun v88 => ?_)
          refine jr_iconst K dX11_book_91 (v := (nI 1)) (by decide) ?_
          refine jr_dup2 K dX11_book_92 rfl rfl ?_
          refine jr_iald K dX11_book_93 (fun v93 => ?_)
          refine jr_iconst K dX11_book_94 (v := (nI 1)) (by decide) ?_
          refine jr_iadd K dX11_book_95 ?_
          refine jr_iast K dX11_book_96 ?_
          refine jr_iload_n K dX11_book_97 rfl ?_
          exact hret _ _ _ _ _ dX11_book_98
        · refine jr_iconst K dX11_book_50 (v := (nI 0)) (by decide) ?_
          exact hret _ _ _ _ _ dX11_book_51
      refine jr_icmp_ne K (tgt := 42) dX11_book_35 (by decide) ?_ ?_
      · refine jr_iconst K dX11_book_42 (v := (nI 0)) (by decide) ?_
        exact jr_weak (hk43 (nI 0)) ⟨rfl, rfl, trivial⟩
      · refine jr_iconst K dX11_book_38 (v := (nI 1)) (by decide) ?_
        refine jr_goto K (tgt := 43) dX11_book_39 (by decide) ?_
        exact jr_weak (hk43 (nI 1)) ⟨rfl, rfl, trivial⟩
  refine jr_if_ne K (tgt := 19) dX11_book_12 (by decide) ?_ ?_
  · refine jr_iconst K dX11_book_19 (v := (nI 0)) (by decide) ?_
    exact jr_weak (hk20 (nI 0)) ⟨rfl, rfl, trivial⟩
  · refine jr_iconst K dX11_book_15 (v := (nI 1)) (by decide) ?_
    refine jr_goto K (tgt := 20) dX11_book_16 (by decide) ?_
    exact jr_weak (hk20 (nI 1)) ⟨rfl, rfl, trivial⟩
theorem metX11_book (hG : jG l D S0 A0) (this : Nat) (p1 : Int32) (Qj : Int32 → JP) : Met l yX11_book (ws_ yX11_book cX11_book 3 (some .int)) (jrm 13 0 0) (va_Pc [.ref this, .int p1] (jB D S0 (JX11_book this p1 Qj))) (va_Qi Qj (fun σ t => jRep D S0.heap.size σ t.heap) (jA S0)) 0 0 (jA S0) :=
  jr_start hG (by decide) (Nat.le_of_ble_eq_true rfl) rfl fun p e s m below meth c K hr hn => wX11_book K _ _ this p1 Qj (fun _ _ _ _ _ d => jr_iret K hr rfl d)
theorem wX11_noBook (K : JK p l R s m args meth c D S0 A0 2 cX11_noBook "MoveNotesModel" 14) (bc bs : Nat) (this : Nat) (p1 : Int32) (Qj : Int32 → JP) (hret : jRetZ p l e R s m args below meth c Q D S0 2 cX11_noBook Qj) : JR p l e R s m args below meth c Q D S0 2 bc bs (JX11_noBook this p1 Qj) 0 [some (.ref this), some (.int p1)] [] := by
  unfold JX11_noBook
  refine jr_aload_n K dX11_noBook_0 rfl ?_
  refine jr_iload_n K dX11_noBook_1 rfl ?_
  refine jr_iconst K dX11_noBook_2 (v := (nI 1)) (by decide) ?_
  refine jr_calli0 (jrun_V (As := [.int p1, .int (nI 1)]) (st := []) (ci := 11) K (metX11_none K.hG this p1 (nI 1) _) mtX11_none mvX11_none q1767 rfl rfl rfl (Nat.le_of_ble_eq_true rfl) (by decide) ⟨Nat.zero_le _, Nat.zero_le _⟩ dX11_noBook_3) (fun v3 => ?_)
  exact hret _ _ _ _ _ dX11_noBook_6
theorem metX11_noBook (hG : jG l D S0 A0) (this : Nat) (p1 : Int32) (Qj : Int32 → JP) : Met l yX11_noBook (ws_ yX11_noBook cX11_noBook 2 (some .boolean)) (jrm 14 0 0) (va_Pc [.ref this, .int p1] (jB D S0 (JX11_noBook this p1 Qj))) (va_Qi Qj (fun σ t => jRep D S0.heap.size σ t.heap) (jA S0)) 0 0 (jA S0) :=
  jr_start hG (by decide) (Nat.le_of_ble_eq_true rfl) rfl fun p e s m below meth c K hr hn => wX11_noBook K _ _ this p1 Qj (fun _ _ _ _ _ d => jr_zret K hr d)
theorem wX11_badNote (K : JK p l R s m args meth c D S0 A0 3 cX11_badNote "MoveNotesModel" 13) (bc bs : Nat) (p0 : Int32) (p1 : Int32) (p2 : Int32) (Qj : Int32 → JP) (hret : jRetZ p l e R s m args below meth c Q D S0 3 cX11_badNote Qj) : JR p l e R s m args below meth c Q D S0 3 bc bs (JX11_badNote p0 p1 p2 Qj) 0 [some (.int p0), some (.int p1), some (.int p2)] [] := by
  unfold JX11_badNote
  refine jr_iload_n K dX11_badNote_0 rfl ?_
  refine jr_iconst K dX11_badNote_1 (v := (-1)) (by decide) ?_
  refine jr_iconst K dX11_badNote_2 (v := (nI 5)) (by decide) ?_
  refine jr_calli0 (jrun_S (As := [.int p0, .int (-1), .int (nI 5)]) (st := []) K (metX11_in K.hG p0 (-1) (nI 5) _) mtX11_in q1746 q1745 rfl rfl (Nat.le_of_ble_eq_true rfl) (by decide) ⟨Nat.zero_le _, Nat.zero_le _⟩ dX11_badNote_3) (fun v3 => ?_)
  refine jr_join (fun (k27 : JP) => JR p l e R s m args below meth c Q D S0 3 bc bs k27 27 [none, none, none] []) ?_ (fun k27 hk27 => ?_)
  · refine jr_iconst K dX11_badNote_27 (v := (nI 1)) (by decide) ?_
    refine jr_goto K (tgt := 32) dX11_badNote_28 (by decide) ?_
    exact JR.imp (fun _ h => ⟨Or.inr rfl, h⟩) (hret _ _ _ _ _ dX11_badNote_32)
  refine jr_if_eq K (tgt := 27) dX11_badNote_6 (by decide) ?_ ?_
  · exact jr_weak (hk27) trivial
  · refine jr_iload_n K dX11_badNote_9 rfl ?_
    refine jr_iconst K dX11_badNote_10 (v := (nI 0)) (by decide) ?_
    refine jr_iconst K dX11_badNote_11 (v := (nI 5)) (by decide) ?_
    refine jr_calli0 (jrun_S (As := [.int p1, .int (nI 0), .int (nI 5)]) (st := []) K (metX11_in K.hG p1 (nI 0) (nI 5) _) mtX11_in q1746 q1745 rfl rfl (Nat.le_of_ble_eq_true rfl) (by decide) ⟨Nat.zero_le _, Nat.zero_le _⟩ dX11_badNote_12) (fun v12 => ?_)
    refine jr_if_eq K (tgt := 27) dX11_badNote_15 (by decide) ?_ ?_
    · exact jr_weak (hk27) trivial
    · refine jr_iload_n K dX11_badNote_18 rfl ?_
      refine jr_iconst K dX11_badNote_19 (v := (nI 0)) (by decide) ?_
      refine jr_iconst K dX11_badNote_20 (v := (nI 5)) (by decide) ?_
      refine jr_calli0 (jrun_S (As := [.int p2, .int (nI 0), .int (nI 5)]) (st := []) K (metX11_in K.hG p2 (nI 0) (nI 5) _) mtX11_in q1746 q1745 rfl rfl (Nat.le_of_ble_eq_true rfl) (by decide) ⟨Nat.zero_le _, Nat.zero_le _⟩ dX11_badNote_21) (fun v21 => ?_)
      refine jr_if_ne K (tgt := 31) dX11_badNote_24 (by decide) ?_ ?_
      · refine jr_iconst K dX11_badNote_31 (v := (nI 0)) (by decide) ?_
        exact JR.imp (fun _ h => ⟨Or.inl rfl, h⟩) (hret _ _ _ _ _ dX11_badNote_32)
      · exact jr_weak (hk27) trivial
theorem metX11_badNote (hG : jG l D S0 A0) (p0 : Int32) (p1 : Int32) (p2 : Int32) (Qj : Int32 → JP) : Met l yX11_badNote (ws_ yX11_badNote cX11_badNote 3 (some .boolean)) (jrm 13 0 0) (va_Pc [.int p0, .int p1, .int p2] (jB D S0 (JX11_badNote p0 p1 p2 Qj))) (va_Qi Qj (fun σ t => jRep D S0.heap.size σ t.heap) (jA S0)) 0 0 (jA S0) :=
  jr_start hG (by decide) (Nat.le_of_ble_eq_true rfl) rfl fun p e s m below meth c K hr hn => wX11_badNote K _ _ p0 p1 p2 Qj (fun _ _ _ _ _ d => jr_zret K hr d)
theorem wX11_ofBook (K : JK p l R s m args meth c D S0 A0 3 cX11_ofBook "MoveNotesModel" 12) (bc bs : Nat) (this : Nat) (p1 : Int32) (p2 : Int32) (Qj : Int32 → JP) (hret : jRetI p l e R s m args below meth c Q D S0 3 cX11_ofBook Qj) : JR p l e R s m args below meth c Q D S0 3 bc bs (JX11_ofBook this p1 p2 Qj) 0 [some (.ref this), some (.int p1), some (.int p2)] [] := by
  unfold JX11_ofBook
  refine jr_aload_n K dX11_ofBook_0 rfl ?_
  refine jr_getA K gf_X11_13 dX11_ofBook_1 (fun v1 => ?_)
  refine jr_bipush K dX11_ofBook_4 (v := (nI 119)) (by decide) ?_
  refine jr_bipush K dX11_ofBook_6 (v := (nI 98)) (by decide) ?_
  refine jr_iload_n K dX11_ofBook_8 rfl ?_
  refine jr_imul K dX11_ofBook_9 ?_
  refine jr_iadd K dX11_ofBook_10 ?_
  refine jr_iload_n K dX11_ofBook_11 rfl ?_
  refine jr_iadd K dX11_ofBook_12 ?_
  refine jr_iald K dX11_ofBook_13 (fun v13 => ?_)
  exact hret _ _ _ _ _ dX11_ofBook_14
theorem metX11_ofBook (hG : jG l D S0 A0) (this : Nat) (p1 : Int32) (p2 : Int32) (Qj : Int32 → JP) : Met l yX11_ofBook (ws_ yX11_ofBook cX11_ofBook 3 (some .int)) (jrm 12 0 0) (va_Pc [.ref this, .int p1, .int p2] (jB D S0 (JX11_ofBook this p1 p2 Qj))) (va_Qi Qj (fun σ t => jRep D S0.heap.size σ t.heap) (jA S0)) 0 0 (jA S0) :=
  jr_start hG (by decide) (Nat.le_of_ble_eq_true rfl) rfl fun p e s m below meth c K hr hn => wX11_ofBook K _ _ this p1 p2 Qj (fun _ _ _ _ _ d => jr_iret K hr rfl d)
theorem wX11_notes (K : JK p l R s m args meth c D S0 A0 2 cX11_notes "MoveNotesModel" 13) (bc bs : Nat) (this : Nat) (p1 : Int32) (Qj : Int32 → JP) (hret : jRetI p l e R s m args below meth c Q D S0 2 cX11_notes Qj) : JR p l e R s m args below meth c Q D S0 2 bc bs (JX11_notes this p1 Qj) 0 [some (.ref this), some (.int p1)] [] := by
  unfold JX11_notes
  refine jr_aload_n K dX11_notes_0 rfl ?_
  refine jr_iload_n K dX11_notes_1 rfl ?_
  refine jr_iconst K dX11_notes_2 (v := (nI 1)) (by decide) ?_
  refine jr_calli0 (jrun_V (As := [.int p1, .int (nI 1)]) (st := []) (ci := 11) K (metX11_ofBook K.hG this p1 (nI 1) _) mtX11_ofBook mvX11_ofBook q1793 rfl rfl rfl (Nat.le_of_ble_eq_true rfl) (by decide) ⟨Nat.zero_le _, Nat.zero_le _⟩ dX11_notes_3) (fun v3 => ?_)
  exact hret _ _ _ _ _ dX11_notes_6
theorem metX11_notes (hG : jG l D S0 A0) (this : Nat) (p1 : Int32) (Qj : Int32 → JP) : Met l yX11_notes (ws_ yX11_notes cX11_notes 2 (some .int)) (jrm 13 0 0) (va_Pc [.ref this, .int p1] (jB D S0 (JX11_notes this p1 Qj))) (va_Qi Qj (fun σ t => jRep D S0.heap.size σ t.heap) (jA S0)) 0 0 (jA S0) :=
  jr_start hG (by decide) (Nat.le_of_ble_eq_true rfl) rfl fun p e s m below meth c K hr hn => wX11_notes K _ _ this p1 Qj (fun _ _ _ _ _ d => jr_iret K hr rfl d)
theorem wX11_setsNote (K : JK p l R s m args meth c D S0 A0 8 cX11_setsNote "MoveNotesModel" 12) (bc bs : Nat) (this : Nat) (p1 : Int32) (p2 : Int32) (p3 : Int32) (p4 : Int32) (p5 : Int32) (p6 : Int32) (Qj : JP) (hret : jRetV p l e R s m args below meth c Q D S0 8 cX11_setsNote Qj) : JR p l e R s m args below meth c Q D S0 8 bc bs (JX11_setsNote this p1 p2 p3 p4 p5 p6 Qj) 0 [some (.ref this), some (.int p1), some (.int p2), some (.int p3), some (.int p4), some (.int p5), some (.int p6), none] [] := by
  unfold JX11_setsNote
  refine jr_bipush K dX11_setsNote_0 (v := (nI 119)) (by decide) ?_
  refine jr_bipush K dX11_setsNote_2 (v := (nI 98)) (by decide) ?_
  refine jr_iload_n K dX11_setsNote_4 rfl ?_
  refine jr_imul K dX11_setsNote_5 ?_
  refine jr_iadd K dX11_setsNote_6 ?_
  refine jr_iconst K dX11_setsNote_7 (v := (nI 2)) (by decide) ?_
  refine jr_iadd K dX11_setsNote_8 ?_
  refine jr_iconst K dX11_setsNote_9 (v := (nI 4)) (by decide) ?_
  refine jr_iload_n K dX11_setsNote_10 rfl ?_
  refine jr_imul K dX11_setsNote_11 ?_
  refine jr_iadd K dX11_setsNote_12 ?_
  refine jr_istore K (L' := [some (.ref this), some (.int p1), some (.int p2), some (.int p3), some (.int p4), some (.int p5), some (.int p6), some (.int ((((nI 119) + ((nI 98) * p1)) + (nI 2)) + ((nI 4) * p2)))]) dX11_setsNote_13 (by decide) rfl rfl ?_
  refine jr_aload_n K dX11_setsNote_15 rfl ?_
  refine jr_getA K gf_X11_13 dX11_setsNote_16 (fun v16 => ?_)
  refine jr_iload K dX11_setsNote_19 rfl ?_
  refine jr_iload_n K dX11_setsNote_21 rfl ?_
  refine jr_iast K dX11_setsNote_22 ?_
  refine jr_aload_n K dX11_setsNote_23 rfl ?_
  refine jr_getA K gf_X11_13 dX11_setsNote_24 (fun v24 => ?_)
  refine jr_iload K dX11_setsNote_27 rfl ?_
  refine jr_iconst K dX11_setsNote_29 (v := (nI 1)) (by decide) ?_
  refine jr_iadd K dX11_setsNote_30 ?_
  refine jr_iload K dX11_setsNote_31 rfl ?_
  refine jr_iast K dX11_setsNote_33 ?_
  refine jr_aload_n K dX11_setsNote_34 rfl ?_
  refine jr_getA K gf_X11_13 dX11_setsNote_35 (fun v35 => ?_)
  refine jr_iload K dX11_setsNote_38 rfl ?_
  refine jr_iconst K dX11_setsNote_40 (v := (nI 2)) (by decide) ?_
  refine jr_iadd K dX11_setsNote_41 ?_
  refine jr_iload K dX11_setsNote_42 rfl ?_
  refine jr_iast K dX11_setsNote_44 ?_
  refine jr_aload_n K dX11_setsNote_45 rfl ?_
  refine jr_getA K gf_X11_13 dX11_setsNote_46 (fun v46 => ?_)
  refine jr_iload K dX11_setsNote_49 rfl ?_
  refine jr_iconst K dX11_setsNote_51 (v := (nI 3)) (by decide) ?_
  refine jr_iadd K dX11_setsNote_52 ?_
  refine jr_iload K dX11_setsNote_53 rfl ?_
  refine jr_iast K dX11_setsNote_55 ?_
  exact hret _ _ _ _ dX11_setsNote_56
theorem metX11_setsNote (hG : jG l D S0 A0) (this : Nat) (p1 : Int32) (p2 : Int32) (p3 : Int32) (p4 : Int32) (p5 : Int32) (p6 : Int32) (Qj : JP) : Met l yX11_setsNote (ws_ yX11_setsNote cX11_setsNote 8 none) (jrm 12 0 0) (va_Pc [.ref this, .int p1, .int p2, .int p3, .int p4, .int p5, .int p6] (jB D S0 (JX11_setsNote this p1 p2 p3 p4 p5 p6 Qj))) (va_Qv Qj (fun σ t => jRep D S0.heap.size σ t.heap) (jA S0)) 0 0 (jA S0) :=
  jr_start hG (by decide) (Nat.le_of_ble_eq_true rfl) rfl fun p e s m below meth c K hr hn => wX11_setsNote K _ _ this p1 p2 p3 p4 p5 p6 Qj (fun _ _ _ _ d => jr_vret K hr d)
theorem wX11_addsNote (K : JK p l R s m args meth c D S0 A0 6 cX11_addsNote "MoveNotesModel" 14) (bc bs : Nat) (this : Nat) (p1 : Int32) (p2 : Int32) (p3 : Int32) (p4 : Int32) (p5 : Int32) (Qj : Int32 → JP) (hret : jRetI p l e R s m args below meth c Q D S0 6 cX11_addsNote Qj) : JR p l e R s m args below meth c Q D S0 6 bc bs (JX11_addsNote this p1 p2 p3 p4 p5 Qj) 0 [some (.ref this), some (.int p1), some (.int p2), some (.int p3), some (.int p4), some (.int p5)] [] := by
  unfold JX11_addsNote
  refine jr_aload_n K dX11_addsNote_0 rfl ?_
  refine jr_iload_n K dX11_addsNote_1 rfl ?_
  refine jr_aload_n K dX11_addsNote_2 rfl ?_
  refine jr_iload_n K dX11_addsNote_3 rfl ?_
  refine jr_calli0 (jrun_V (As := [.int p1]) (st := [.int p1, .ref this]) (ci := 11) K (metX11_notes K.hG this p1 _) mtX11_notes mvX11_notes q1789 rfl rfl rfl (Nat.le_of_ble_eq_true rfl) (by decide) ⟨Nat.zero_le _, Nat.zero_le _⟩ dX11_addsNote_4) (fun v4 => ?_)
  refine jr_iload_n K dX11_addsNote_7 rfl ?_
  refine jr_iload_n K dX11_addsNote_8 rfl ?_
  refine jr_iload K dX11_addsNote_9 rfl ?_
  refine jr_iload K dX11_addsNote_11 rfl ?_
  refine jr_callv0 (jrun_V (As := [.int p1, .int v4, .int p2, .int p3, .int p4, .int p5]) (st := []) (ci := 11) K (metX11_setsNote K.hG this p1 v4 p2 p3 p4 p5 _) mtX11_setsNote mvX11_setsNote q1801 rfl rfl rfl (Nat.le_of_ble_eq_true rfl) (by decide) ⟨Nat.zero_le _, Nat.zero_le _⟩ dX11_addsNote_13) ?_
  refine jr_aload_n K dX11_addsNote_16 rfl ?_
  refine jr_getA K gf_X11_13 dX11_addsNote_17 (fun v17 => ?_)
  refine jr_bipush K dX11_addsNote_20 (v := (nI 119)) (by decide) ?_
  refine jr_bipush K dX11_addsNote_22 (v := (nI 98)) (by decide) ?_
  refine jr_iload_n K dX11_addsNote_24 rfl ?_
  refine jr_imul K dX11_addsNote_25 ?_
  refine jr_iadd K dX11_addsNote_26 ?_
  refine jr_iconst K dX11_addsNote_27 (v := (nI 1)) (by decide) ?_
  refine jr_iadd K dX11_addsNote_28 ?_
  refine jr_dup2 K dX11_addsNote_29 rfl rfl ?_
  refine jr_iald K dX11_addsNote_30 (fun v30 => ?_)
  refine jr_iconst K dX11_addsNote_31 (v := (nI 1)) (by decide) ?_
  refine jr_iadd K dX11_addsNote_32 ?_
  refine jr_iast K dX11_addsNote_33 ?_
  refine jr_aload_n K dX11_addsNote_34 rfl ?_
  refine jr_iload_n K dX11_addsNote_35 rfl ?_
  refine jr_calli0 (jrun_V (As := [.int p1]) (st := []) (ci := 11) K (metX11_notes K.hG this p1 _) mtX11_notes mvX11_notes q1789 rfl rfl rfl (Nat.le_of_ble_eq_true rfl) (by decide) ⟨Nat.zero_le _, Nat.zero_le _⟩ dX11_addsNote_36) (fun v36 => ?_)
  refine jr_iconst K dX11_addsNote_39 (v := (nI 1)) (by decide) ?_
  refine jr_isub K dX11_addsNote_40 ?_
  exact hret _ _ _ _ _ dX11_addsNote_41
theorem metX11_addsNote (hG : jG l D S0 A0) (this : Nat) (p1 : Int32) (p2 : Int32) (p3 : Int32) (p4 : Int32) (p5 : Int32) (Qj : Int32 → JP) : Met l yX11_addsNote (ws_ yX11_addsNote cX11_addsNote 6 (some .int)) (jrm 14 0 0) (va_Pc [.ref this, .int p1, .int p2, .int p3, .int p4, .int p5] (jB D S0 (JX11_addsNote this p1 p2 p3 p4 p5 Qj))) (va_Qi Qj (fun σ t => jRep D S0.heap.size σ t.heap) (jA S0)) 0 0 (jA S0) :=
  jr_start hG (by decide) (Nat.le_of_ble_eq_true rfl) rfl fun p e s m below meth c K hr hn => wX11_addsNote K _ _ this p1 p2 p3 p4 p5 Qj (fun _ _ _ _ _ d => jr_iret K hr rfl d)
theorem wX11_note (K : JK p l R s m args meth c D S0 A0 6 cX11_note "MoveNotesModel" 15) (bc bs : Nat) (this : Nat) (p1 : Int32) (p2 : Int32) (p3 : Int32) (p4 : Int32) (p5 : Int32) (Qj : Int32 → JP) (hret : jRetI p l e R s m args below meth c Q D S0 6 cX11_note Qj) : JR p l e R s m args below meth c Q D S0 6 bc bs (JX11_note this p1 p2 p3 p4 p5 Qj) 0 [some (.ref this), some (.int p1), some (.int p2), some (.int p3), some (.int p4), some (.int p5)] [] := by
  unfold JX11_note
  refine jr_aload_n K dX11_note_0 rfl ?_
  refine jr_iconst K dX11_note_1 (v := (nI 0)) (by decide) ?_
  refine jr_put K pf_X11_3 dX11_note_2 rfl rfl ?_
  refine jr_aload_n K dX11_note_5 rfl ?_
  refine jr_aload_n K dX11_note_6 rfl ?_
  refine jr_iload_n K dX11_note_7 rfl ?_
  refine jr_calli0 (jrun_V (As := [.int p1]) (st := [.ref this]) (ci := 11) K (metX11_noBook K.hG this p1 _) mtX11_noBook mvX11_noBook q1782 rfl rfl rfl (Nat.le_of_ble_eq_true rfl) (by decide) ⟨Nat.zero_le _, Nat.zero_le _⟩ dX11_note_8) (fun v8 => ?_)
  refine jr_join (fun (k27 : Int32 → JP) => ∀ (s1_27 : Int32), JR p l e R s m args below meth c Q D S0 6 bc bs (k27 s1_27) 27 [some (.ref this), some (.int p1), some (.int p2), some (.int p3), some (.int p4), some (.int p5)] [.int s1_27, .ref this]) ?_ (fun k27 hk27 => ?_)
  · intro s1_27
    refine jr_iconst K dX11_note_27 (v := (nI 1)) (by decide) ?_
    refine jr_calli0 (jrun_V (As := [.int s1_27, .int (nI 1)]) (st := []) (ci := 11) K (metX11_throwsIf K.hG this s1_27 (nI 1) _) mtX11_throwsIf mvX11_throwsIf q1748 rfl rfl rfl (Nat.le_of_ble_eq_true rfl) (by decide) ⟨Nat.zero_le _, Nat.zero_le _⟩ dX11_note_28) (fun v28 => ?_)
    refine jr_if_ne K (tgt := 73) dX11_note_31 (by decide) ?_ ?_
    · refine jr_iconst K dX11_note_73 (v := (nI 0)) (by decide) ?_
      exact hret _ _ _ _ _ dX11_note_74
    · refine jr_aload_n K dX11_note_34 rfl ?_
      refine jr_iload_n K dX11_note_35 rfl ?_
      refine jr_iload K dX11_note_36 rfl ?_
      refine jr_iload K dX11_note_38 rfl ?_
      refine jr_calli0 (jrun_S (As := [.int p3, .int p4, .int p5]) (st := [.ref this]) K (metX11_badNote K.hG p3 p4 p5 _) mtX11_badNote q1787 q1786 rfl rfl (Nat.le_of_ble_eq_true rfl) (by decide) ⟨Nat.zero_le _, Nat.zero_le _⟩ dX11_note_40) (fun v40 => ?_)
      refine jr_iconst K dX11_note_43 (v := (nI 2)) (by decide) ?_
      refine jr_calli0 (jrun_V (As := [.int v40, .int (nI 2)]) (st := []) (ci := 11) K (metX11_throwsIf K.hG this v40 (nI 2) _) mtX11_throwsIf mvX11_throwsIf q1748 rfl rfl rfl (Nat.le_of_ble_eq_true rfl) (by decide) ⟨Nat.zero_le _, Nat.zero_le _⟩ dX11_note_44) (fun v44 => ?_)
      refine jr_if_ne K (tgt := 73) dX11_note_47 (by decide) ?_ ?_
      · refine jr_iconst K dX11_note_73 (v := (nI 0)) (by decide) ?_
        exact hret _ _ _ _ _ dX11_note_74
      · refine jr_aload_n K dX11_note_50 rfl ?_
        refine jr_aload_n K dX11_note_51 rfl ?_
        refine jr_iload_n K dX11_note_52 rfl ?_
        refine jr_calli0 (jrun_V (As := [.int p1]) (st := [.ref this]) (ci := 11) K (metX11_notes K.hG this p1 _) mtX11_notes mvX11_notes q1789 rfl rfl rfl (Nat.le_of_ble_eq_true rfl) (by decide) ⟨Nat.zero_le _, Nat.zero_le _⟩ dX11_note_53) (fun v53 => ?_)
        refine jr_bipush K dX11_note_56 (v := (nI 24)) (by decide) ?_
        refine jr_join (fun (k66 : Int32 → JP) => ∀ (s1_66 : Int32), JR p l e R s m args below meth c Q D S0 6 bc bs (k66 s1_66) 66 [some (.ref this), some (.int p1), some (.int p2), some (.int p3), some (.int p4), some (.int p5)] [.int s1_66, .ref this]) ?_ (fun k66 hk66 => ?_)
        · intro s1_66
          refine jr_iconst K dX11_note_66 (v := (nI 3)) (by decide) ?_
          refine jr_calli0 (jrun_V (As := [.int s1_66, .int (nI 3)]) (st := []) (ci := 11) K (metX11_throwsIf K.hG this s1_66 (nI 3) _) mtX11_throwsIf mvX11_throwsIf q1748 rfl rfl rfl (Nat.le_of_ble_eq_true rfl) (by decide) ⟨Nat.zero_le _, Nat.zero_le _⟩ dX11_note_67) (fun v67 => ?_)
          refine jr_if_eq K (tgt := 75) dX11_note_70 (by decide) ?_ ?_
          · refine jr_aload_n K dX11_note_75 rfl ?_
            refine jr_iload_n K dX11_note_76 rfl ?_
            refine jr_iload_n K dX11_note_77 rfl ?_
            refine jr_iload_n K dX11_note_78 rfl ?_
            refine jr_iload K dX11_note_79 rfl ?_
            refine jr_iload K dX11_note_81 rfl ?_
            refine jr_calli0 (jrun_V (As := [.int p1, .int p2, .int p3, .int p4, .int p5]) (st := []) (ci := 11) K (metX11_addsNote K.hG this p1 p2 p3 p4 p5 _) mtX11_addsNote mvX11_addsNote q1797 rfl rfl rfl (Nat.le_of_ble_eq_true rfl) (by decide) ⟨Nat.zero_le _, Nat.zero_le _⟩ dX11_note_83) (fun v83 => ?_)
            exact hret _ _ _ _ _ dX11_note_86
          · refine jr_iconst K dX11_note_73 (v := (nI 0)) (by decide) ?_
            exact hret _ _ _ _ _ dX11_note_74
        refine jr_icmp_ne K (tgt := 65) dX11_note_58 (by decide) ?_ ?_
        · refine jr_iconst K dX11_note_65 (v := (nI 0)) (by decide) ?_
          exact jr_weak (hk66 (nI 0)) ⟨rfl, rfl, rfl, rfl, rfl, rfl, trivial⟩
        · refine jr_iconst K dX11_note_61 (v := (nI 1)) (by decide) ?_
          refine jr_goto K (tgt := 66) dX11_note_62 (by decide) ?_
          exact jr_weak (hk66 (nI 1)) ⟨rfl, rfl, rfl, rfl, rfl, rfl, trivial⟩
  refine jr_join (fun (k22 : JP) => JR p l e R s m args below meth c Q D S0 6 bc bs k22 22 [some (.ref this), some (.int p1), some (.int p2), some (.int p3), some (.int p4), some (.int p5)] [.ref this]) ?_ (fun k22 hk22 => ?_)
  · refine jr_iconst K dX11_note_22 (v := (nI 1)) (by decide) ?_
    refine jr_goto K (tgt := 27) dX11_note_23 (by decide) ?_
    exact jr_weak (hk27 (nI 1)) ⟨rfl, rfl, rfl, rfl, rfl, rfl, trivial⟩
  refine jr_if_ne K (tgt := 22) dX11_note_11 (by decide) ?_ ?_
  · exact jr_weak (hk22) ⟨rfl, rfl, rfl, rfl, rfl, rfl, trivial⟩
  · refine jr_aload_n K dX11_note_14 rfl ?_
    refine jr_iload_n K dX11_note_15 rfl ?_
    refine jr_calli0 (jrun_V (As := [.int p2]) (st := [.ref this]) (ci := 11) K (metX11_noKind K.hG this p2 _) mtX11_noKind mvX11_noKind q1763 rfl rfl rfl (Nat.le_of_ble_eq_true rfl) (by decide) ⟨Nat.zero_le _, Nat.zero_le _⟩ dX11_note_16) (fun v16 => ?_)
    refine jr_if_eq K (tgt := 26) dX11_note_19 (by decide) ?_ ?_
    · refine jr_iconst K dX11_note_26 (v := (nI 0)) (by decide) ?_
      exact jr_weak (hk27 (nI 0)) ⟨rfl, rfl, rfl, rfl, rfl, rfl, trivial⟩
    · exact jr_weak (hk22) ⟨rfl, rfl, rfl, rfl, rfl, rfl, trivial⟩
theorem metX11_note (hG : jG l D S0 A0) (this : Nat) (p1 : Int32) (p2 : Int32) (p3 : Int32) (p4 : Int32) (p5 : Int32) (Qj : Int32 → JP) : Met l yX11_note (ws_ yX11_note cX11_note 6 (some .int)) (jrm 15 0 0) (va_Pc [.ref this, .int p1, .int p2, .int p3, .int p4, .int p5] (jB D S0 (JX11_note this p1 p2 p3 p4 p5 Qj))) (va_Qi Qj (fun σ t => jRep D S0.heap.size σ t.heap) (jA S0)) 0 0 (jA S0) :=
  jr_start hG (by decide) (Nat.le_of_ble_eq_true rfl) rfl fun p e s m below meth c K hr hn => wX11_note K _ _ this p1 p2 p3 p4 p5 Qj (fun _ _ _ _ _ d => jr_iret K hr rfl d)
theorem wX11_noNote (K : JK p l R s m args meth c D S0 A0 3 cX11_noNote "MoveNotesModel" 15) (bc bs : Nat) (this : Nat) (p1 : Int32) (p2 : Int32) (Qj : Int32 → JP) (hret : jRetZ p l e R s m args below meth c Q D S0 3 cX11_noNote Qj) : JR p l e R s m args below meth c Q D S0 3 bc bs (JX11_noNote this p1 p2 Qj) 0 [some (.ref this), some (.int p1), some (.int p2)] [] := by
  unfold JX11_noNote
  refine jr_aload_n K dX11_noNote_0 rfl ?_
  refine jr_iload_n K dX11_noNote_1 rfl ?_
  refine jr_calli0 (jrun_V (As := [.int p1]) (st := []) (ci := 11) K (metX11_noBook K.hG this p1 _) mtX11_noBook mvX11_noBook q1782 rfl rfl rfl (Nat.le_of_ble_eq_true rfl) (by decide) ⟨Nat.zero_le _, Nat.zero_le _⟩ dX11_noNote_2) (fun v2 => ?_)
  refine jr_join (fun (k23 : JP) => JR p l e R s m args below meth c Q D S0 3 bc bs k23 23 [none, none, none] []) ?_ (fun k23 hk23 => ?_)
  · refine jr_iconst K dX11_noNote_23 (v := (nI 1)) (by decide) ?_
    refine jr_goto K (tgt := 28) dX11_noNote_24 (by decide) ?_
    exact JR.imp (fun _ h => ⟨Or.inr rfl, h⟩) (hret _ _ _ _ _ dX11_noNote_28)
  refine jr_if_ne K (tgt := 23) dX11_noNote_5 (by decide) ?_ ?_
  · exact jr_weak (hk23) trivial
  · refine jr_iload_n K dX11_noNote_8 rfl ?_
    refine jr_iconst K dX11_noNote_9 (v := (nI 0)) (by decide) ?_
    refine jr_aload_n K dX11_noNote_10 rfl ?_
    refine jr_iload_n K dX11_noNote_11 rfl ?_
    refine jr_calli0 (jrun_V (As := [.int p1]) (st := [.int (nI 0), .int p2]) (ci := 11) K (metX11_notes K.hG this p1 _) mtX11_notes mvX11_notes q1789 rfl rfl rfl (Nat.le_of_ble_eq_true rfl) (by decide) ⟨Nat.zero_le _, Nat.zero_le _⟩ dX11_noNote_12) (fun v12 => ?_)
    refine jr_iconst K dX11_noNote_15 (v := (nI 1)) (by decide) ?_
    refine jr_isub K dX11_noNote_16 ?_
    refine jr_calli0 (jrun_S (As := [.int p2, .int (nI 0), .int (v12 - (nI 1))]) (st := []) K (metX11_in K.hG p2 (nI 0) (v12 - (nI 1)) _) mtX11_in q1746 q1745 rfl rfl (Nat.le_of_ble_eq_true rfl) (by decide) ⟨Nat.zero_le _, Nat.zero_le _⟩ dX11_noNote_17) (fun v17 => ?_)
    refine jr_if_ne K (tgt := 27) dX11_noNote_20 (by decide) ?_ ?_
    · refine jr_iconst K dX11_noNote_27 (v := (nI 0)) (by decide) ?_
      exact JR.imp (fun _ h => ⟨Or.inl rfl, h⟩) (hret _ _ _ _ _ dX11_noNote_28)
    · exact jr_weak (hk23) trivial
theorem metX11_noNote (hG : jG l D S0 A0) (this : Nat) (p1 : Int32) (p2 : Int32) (Qj : Int32 → JP) : Met l yX11_noNote (ws_ yX11_noNote cX11_noNote 3 (some .boolean)) (jrm 15 0 0) (va_Pc [.ref this, .int p1, .int p2] (jB D S0 (JX11_noNote this p1 p2 Qj))) (va_Qi Qj (fun σ t => jRep D S0.heap.size σ t.heap) (jA S0)) 0 0 (jA S0) :=
  jr_start hG (by decide) (Nat.le_of_ble_eq_true rfl) rfl fun p e s m below meth c K hr hn => wX11_noNote K _ _ this p1 p2 Qj (fun _ _ _ _ _ d => jr_zret K hr d)
theorem wX11_ofNote (K : JK p l R s m args meth c D S0 A0 4 cX11_ofNote "MoveNotesModel" 13) (bc bs : Nat) (this : Nat) (p1 : Int32) (p2 : Int32) (p3 : Int32) (Qj : Int32 → JP) (hret : jRetI p l e R s m args below meth c Q D S0 4 cX11_ofNote Qj) : JR p l e R s m args below meth c Q D S0 4 bc bs (JX11_ofNote this p1 p2 p3 Qj) 0 [some (.ref this), some (.int p1), some (.int p2), some (.int p3)] [] := by
  unfold JX11_ofNote
  refine jr_aload_n K dX11_ofNote_0 rfl ?_
  refine jr_iload_n K dX11_ofNote_1 rfl ?_
  refine jr_iconst K dX11_ofNote_2 (v := (nI 2)) (by decide) ?_
  refine jr_iconst K dX11_ofNote_3 (v := (nI 4)) (by decide) ?_
  refine jr_iload_n K dX11_ofNote_4 rfl ?_
  refine jr_imul K dX11_ofNote_5 ?_
  refine jr_iadd K dX11_ofNote_6 ?_
  refine jr_iload_n K dX11_ofNote_7 rfl ?_
  refine jr_iadd K dX11_ofNote_8 ?_
  refine jr_calli0 (jrun_V (As := [.int p1, .int (((nI 2) + ((nI 4) * p2)) + p3)]) (st := []) (ci := 11) K (metX11_ofBook K.hG this p1 (((nI 2) + ((nI 4) * p2)) + p3) _) mtX11_ofBook mvX11_ofBook q1793 rfl rfl rfl (Nat.le_of_ble_eq_true rfl) (by decide) ⟨Nat.zero_le _, Nat.zero_le _⟩ dX11_ofNote_9) (fun v9 => ?_)
  exact hret _ _ _ _ _ dX11_ofNote_12
theorem metX11_ofNote (hG : jG l D S0 A0) (this : Nat) (p1 : Int32) (p2 : Int32) (p3 : Int32) (Qj : Int32 → JP) : Met l yX11_ofNote (ws_ yX11_ofNote cX11_ofNote 4 (some .int)) (jrm 13 0 0) (va_Pc [.ref this, .int p1, .int p2, .int p3] (jB D S0 (JX11_ofNote this p1 p2 p3 Qj))) (va_Qi Qj (fun σ t => jRep D S0.heap.size σ t.heap) (jA S0)) 0 0 (jA S0) :=
  jr_start hG (by decide) (Nat.le_of_ble_eq_true rfl) rfl fun p e s m below meth c K hr hn => wX11_ofNote K _ _ this p1 p2 p3 Qj (fun _ _ _ _ _ d => jr_iret K hr rfl d)
theorem wX11_change (K : JK p l R s m args meth c D S0 A0 8 cX11_change "MoveNotesModel" 16) (bc bs : Nat) (this : Nat) (p1 : Int32) (p2 : Int32) (p3 : Int32) (p4 : Int32) (p5 : Int32) (p6 : Int32) (Qj : Int32 → JP) (hret : jRetZ p l e R s m args below meth c Q D S0 8 cX11_change Qj) : JR p l e R s m args below meth c Q D S0 8 bc bs (JX11_change this p1 p2 p3 p4 p5 p6 Qj) 0 [some (.ref this), some (.int p1), some (.int p2), some (.int p3), some (.int p4), some (.int p5), some (.int p6), none] [] := by
  unfold JX11_change
  refine jr_aload_n K dX11_change_0 rfl ?_
  refine jr_iconst K dX11_change_1 (v := (nI 0)) (by decide) ?_
  refine jr_put K pf_X11_3 dX11_change_2 rfl rfl ?_
  refine jr_aload_n K dX11_change_5 rfl ?_
  refine jr_aload_n K dX11_change_6 rfl ?_
  refine jr_iload_n K dX11_change_7 rfl ?_
  refine jr_iload_n K dX11_change_8 rfl ?_
  refine jr_calli0 (jrun_V (As := [.int p1, .int p2]) (st := [.ref this]) (ci := 11) K (metX11_noNote K.hG this p1 p2 _) mtX11_noNote mvX11_noNote q1809 rfl rfl rfl (Nat.le_of_ble_eq_true rfl) (by decide) ⟨Nat.zero_le _, Nat.zero_le _⟩ dX11_change_9) (fun v9 => ?_)
  refine jr_join (fun (k28 : Int32 → JP) => ∀ (s1_28 : Int32), JR p l e R s m args below meth c Q D S0 8 bc bs (k28 s1_28) 28 [some (.ref this), some (.int p1), some (.int p2), some (.int p3), some (.int p4), some (.int p5), some (.int p6), none] [.int s1_28, .ref this]) ?_ (fun k28 hk28 => ?_)
  · intro s1_28
    refine jr_iconst K dX11_change_28 (v := (nI 1)) (by decide) ?_
    refine jr_calli0 (jrun_V (As := [.int s1_28, .int (nI 1)]) (st := []) (ci := 11) K (metX11_throwsIf K.hG this s1_28 (nI 1) _) mtX11_throwsIf mvX11_throwsIf q1748 rfl rfl rfl (Nat.le_of_ble_eq_true rfl) (by decide) ⟨Nat.zero_le _, Nat.zero_le _⟩ dX11_change_29) (fun v29 => ?_)
    refine jr_if_ne K (tgt := 52) dX11_change_32 (by decide) ?_ ?_
    · refine jr_iconst K dX11_change_52 (v := (nI 0)) (by decide) ?_
      exact JR.imp (fun _ h => ⟨Or.inl rfl, h⟩) (hret _ _ _ _ _ dX11_change_53)
    · refine jr_aload_n K dX11_change_35 rfl ?_
      refine jr_iload K dX11_change_36 rfl ?_
      refine jr_iload K dX11_change_38 rfl ?_
      refine jr_iload K dX11_change_40 rfl ?_
      refine jr_calli0 (jrun_S (As := [.int p4, .int p5, .int p6]) (st := [.ref this]) K (metX11_badNote K.hG p4 p5 p6 _) mtX11_badNote q1787 q1786 rfl rfl (Nat.le_of_ble_eq_true rfl) (by decide) ⟨Nat.zero_le _, Nat.zero_le _⟩ dX11_change_42) (fun v42 => ?_)
      refine jr_iconst K dX11_change_45 (v := (nI 2)) (by decide) ?_
      refine jr_calli0 (jrun_V (As := [.int v42, .int (nI 2)]) (st := []) (ci := 11) K (metX11_throwsIf K.hG this v42 (nI 2) _) mtX11_throwsIf mvX11_throwsIf q1748 rfl rfl rfl (Nat.le_of_ble_eq_true rfl) (by decide) ⟨Nat.zero_le _, Nat.zero_le _⟩ dX11_change_46) (fun v46 => ?_)
      refine jr_if_eq K (tgt := 54) dX11_change_49 (by decide) ?_ ?_
      · refine jr_aload_n K dX11_change_54 rfl ?_
        refine jr_iload_n K dX11_change_55 rfl ?_
        refine jr_iload_n K dX11_change_56 rfl ?_
        refine jr_iconst K dX11_change_57 (v := (nI 0)) (by decide) ?_
        refine jr_calli0 (jrun_V (As := [.int p1, .int p2, .int (nI 0)]) (st := []) (ci := 11) K (metX11_ofNote K.hG this p1 p2 (nI 0) _) mtX11_ofNote mvX11_ofNote q1813 rfl rfl rfl (Nat.le_of_ble_eq_true rfl) (by decide) ⟨Nat.zero_le _, Nat.zero_le _⟩ dX11_change_58) (fun v58 => ?_)
        refine jr_iload_n K dX11_change_61 rfl ?_
        refine jr_join (fun (k106 : Int32 → JP) => ∀ (s0_106 : Int32), JR p l e R s m args below meth c Q D S0 8 bc bs (k106 s0_106) 106 [some (.ref this), some (.int p1), some (.int p2), some (.int p3), some (.int p4), some (.int p5), some (.int p6), none] [.int s0_106]) ?_ (fun k106 hk106 => ?_)
        · intro s0_106
          refine jr_istore K (L' := [some (.ref this), some (.int p1), some (.int p2), some (.int p3), some (.int p4), some (.int p5), some (.int p6), some (.int s0_106)]) dX11_change_106 (by decide) rfl rfl ?_
          refine jr_aload_n K dX11_change_108 rfl ?_
          refine jr_iload_n K dX11_change_109 rfl ?_
          refine jr_iload_n K dX11_change_110 rfl ?_
          refine jr_iload_n K dX11_change_111 rfl ?_
          refine jr_iload K dX11_change_112 rfl ?_
          refine jr_iload K dX11_change_114 rfl ?_
          refine jr_iload K dX11_change_116 rfl ?_
          refine jr_callv0 (jrun_V (As := [.int p1, .int p2, .int p3, .int p4, .int p5, .int p6]) (st := []) (ci := 11) K (metX11_setsNote K.hG this p1 p2 p3 p4 p5 p6 _) mtX11_setsNote mvX11_setsNote q1801 rfl rfl rfl (Nat.le_of_ble_eq_true rfl) (by decide) ⟨Nat.zero_le _, Nat.zero_le _⟩ dX11_change_118) ?_
          refine jr_iload K dX11_change_121 rfl ?_
          exact hret _ _ _ _ _ dX11_change_123
        refine jr_join (fun (k101 : JP) => JR p l e R s m args below meth c Q D S0 8 bc bs k101 101 [some (.ref this), some (.int p1), some (.int p2), some (.int p3), some (.int p4), some (.int p5), some (.int p6), none] []) ?_ (fun k101 hk101 => ?_)
        · refine jr_iconst K dX11_change_101 (v := (nI 1)) (by decide) ?_
          refine jr_goto K (tgt := 106) dX11_change_102 (by decide) ?_
          exact jr_weak (hk106 (nI 1)) ⟨rfl, rfl, rfl, rfl, rfl, rfl, rfl, trivial⟩
        refine jr_icmp_ne K (tgt := 101) dX11_change_62 (by decide) ?_ ?_
        · exact jr_weak (hk101) ⟨rfl, rfl, rfl, rfl, rfl, rfl, rfl, trivial⟩
        · refine jr_aload_n K dX11_change_65 rfl ?_
          refine jr_iload_n K dX11_change_66 rfl ?_
          refine jr_iload_n K dX11_change_67 rfl ?_
          refine jr_iconst K dX11_change_68 (v := (nI 1)) (by decide) ?_
          refine jr_calli0 (jrun_V (As := [.int p1, .int p2, .int (nI 1)]) (st := []) (ci := 11) K (metX11_ofNote K.hG this p1 p2 (nI 1) _) mtX11_ofNote mvX11_ofNote q1813 rfl rfl rfl (Nat.le_of_ble_eq_true rfl) (by decide) ⟨Nat.zero_le _, Nat.zero_le _⟩ dX11_change_69) (fun v69 => ?_)
          refine jr_iload K dX11_change_72 rfl ?_
          refine jr_icmp_ne K (tgt := 101) dX11_change_74 (by decide) ?_ ?_
          · exact jr_weak (hk101) ⟨rfl, rfl, rfl, rfl, rfl, rfl, rfl, trivial⟩
          · refine jr_aload_n K dX11_change_77 rfl ?_
            refine jr_iload_n K dX11_change_78 rfl ?_
            refine jr_iload_n K dX11_change_79 rfl ?_
            refine jr_iconst K dX11_change_80 (v := (nI 2)) (by decide) ?_
            refine jr_calli0 (jrun_V (As := [.int p1, .int p2, .int (nI 2)]) (st := []) (ci := 11) K (metX11_ofNote K.hG this p1 p2 (nI 2) _) mtX11_ofNote mvX11_ofNote q1813 rfl rfl rfl (Nat.le_of_ble_eq_true rfl) (by decide) ⟨Nat.zero_le _, Nat.zero_le _⟩ dX11_change_81) (fun v81 => ?_)
            refine jr_iload K dX11_change_84 rfl ?_
            refine jr_icmp_ne K (tgt := 101) dX11_change_86 (by decide) ?_ ?_
            · exact jr_weak (hk101) ⟨rfl, rfl, rfl, rfl, rfl, rfl, rfl, trivial⟩
            · refine jr_aload_n K dX11_change_89 rfl ?_
              refine jr_iload_n K dX11_change_90 rfl ?_
              refine jr_iload_n K dX11_change_91 rfl ?_
              refine jr_iconst K dX11_change_92 (v := (nI 3)) (by decide) ?_
              refine jr_calli0 (jrun_V (As := [.int p1, .int p2, .int (nI 3)]) (st := []) (ci := 11) K (metX11_ofNote K.hG this p1 p2 (nI 3) _) mtX11_ofNote mvX11_ofNote q1813 rfl rfl rfl (Nat.le_of_ble_eq_true rfl) (by decide) ⟨Nat.zero_le _, Nat.zero_le _⟩ dX11_change_93) (fun v93 => ?_)
              refine jr_iload K dX11_change_96 rfl ?_
              refine jr_icmp_eq K (tgt := 105) dX11_change_98 (by decide) ?_ ?_
              · refine jr_iconst K dX11_change_105 (v := (nI 0)) (by decide) ?_
                exact jr_weak (hk106 (nI 0)) ⟨rfl, rfl, rfl, rfl, rfl, rfl, rfl, trivial⟩
              · exact jr_weak (hk101) ⟨rfl, rfl, rfl, rfl, rfl, rfl, rfl, trivial⟩
      · refine jr_iconst K dX11_change_52 (v := (nI 0)) (by decide) ?_
        exact JR.imp (fun _ h => ⟨Or.inl rfl, h⟩) (hret _ _ _ _ _ dX11_change_53)
  refine jr_join (fun (k23 : JP) => JR p l e R s m args below meth c Q D S0 8 bc bs k23 23 [some (.ref this), some (.int p1), some (.int p2), some (.int p3), some (.int p4), some (.int p5), some (.int p6), none] [.ref this]) ?_ (fun k23 hk23 => ?_)
  · refine jr_iconst K dX11_change_23 (v := (nI 1)) (by decide) ?_
    refine jr_goto K (tgt := 28) dX11_change_24 (by decide) ?_
    exact jr_weak (hk28 (nI 1)) ⟨rfl, rfl, rfl, rfl, rfl, rfl, rfl, trivial⟩
  refine jr_if_ne K (tgt := 23) dX11_change_12 (by decide) ?_ ?_
  · exact jr_weak (hk23) ⟨rfl, rfl, rfl, rfl, rfl, rfl, rfl, trivial⟩
  · refine jr_aload_n K dX11_change_15 rfl ?_
    refine jr_iload_n K dX11_change_16 rfl ?_
    refine jr_calli0 (jrun_V (As := [.int p3]) (st := [.ref this]) (ci := 11) K (metX11_noKind K.hG this p3 _) mtX11_noKind mvX11_noKind q1763 rfl rfl rfl (Nat.le_of_ble_eq_true rfl) (by decide) ⟨Nat.zero_le _, Nat.zero_le _⟩ dX11_change_17) (fun v17 => ?_)
    refine jr_if_eq K (tgt := 27) dX11_change_20 (by decide) ?_ ?_
    · refine jr_iconst K dX11_change_27 (v := (nI 0)) (by decide) ?_
      exact jr_weak (hk28 (nI 0)) ⟨rfl, rfl, rfl, rfl, rfl, rfl, rfl, trivial⟩
    · exact jr_weak (hk23) ⟨rfl, rfl, rfl, rfl, rfl, rfl, rfl, trivial⟩
theorem metX11_change (hG : jG l D S0 A0) (this : Nat) (p1 : Int32) (p2 : Int32) (p3 : Int32) (p4 : Int32) (p5 : Int32) (p6 : Int32) (Qj : Int32 → JP) : Met l yX11_change (ws_ yX11_change cX11_change 8 (some .boolean)) (jrm 16 0 0) (va_Pc [.ref this, .int p1, .int p2, .int p3, .int p4, .int p5, .int p6] (jB D S0 (JX11_change this p1 p2 p3 p4 p5 p6 Qj))) (va_Qi Qj (fun σ t => jRep D S0.heap.size σ t.heap) (jA S0)) 0 0 (jA S0) :=
  jr_start hG (by decide) (Nat.le_of_ble_eq_true rfl) rfl fun p e s m below meth c K hr hn => wX11_change K _ _ this p1 p2 p3 p4 p5 p6 Qj (fun _ _ _ _ _ d => jr_zret K hr d)
theorem wX11_look (K : JK p l R s m args meth c D S0 A0 4 cX11_look "MoveNotesModel" 16) (bc bs : Nat) (this : Nat) (p1 : Int32) (p2 : Int32) (p3 : Int32) (Qj : Int32 → JP) (hret : jRetI p l e R s m args below meth c Q D S0 4 cX11_look Qj) : JR p l e R s m args below meth c Q D S0 4 bc bs (JX11_look this p1 p2 p3 Qj) 0 [some (.ref this), some (.int p1), some (.int p2), some (.int p3)] [] := by
  unfold JX11_look
  refine jr_aload_n K dX11_look_0 rfl ?_
  refine jr_iconst K dX11_look_1 (v := (nI 0)) (by decide) ?_
  refine jr_put K pf_X11_3 dX11_look_2 rfl rfl ?_
  refine jr_aload_n K dX11_look_5 rfl ?_
  refine jr_aload_n K dX11_look_6 rfl ?_
  refine jr_iload_n K dX11_look_7 rfl ?_
  refine jr_iload_n K dX11_look_8 rfl ?_
  refine jr_calli0 (jrun_V (As := [.int p1, .int p2]) (st := [.ref this]) (ci := 11) K (metX11_noNote K.hG this p1 p2 _) mtX11_noNote mvX11_noNote q1809 rfl rfl rfl (Nat.le_of_ble_eq_true rfl) (by decide) ⟨Nat.zero_le _, Nat.zero_le _⟩ dX11_look_9) (fun v9 => ?_)
  refine jr_iconst K dX11_look_12 (v := (nI 1)) (by decide) ?_
  refine jr_calli0 (jrun_V (As := [.int v9, .int (nI 1)]) (st := []) (ci := 11) K (metX11_throwsIf K.hG this v9 (nI 1) _) mtX11_throwsIf mvX11_throwsIf q1748 rfl rfl rfl (Nat.le_of_ble_eq_true rfl) (by decide) ⟨Nat.zero_le _, Nat.zero_le _⟩ dX11_look_13) (fun v13 => ?_)
  refine jr_join (fun (k41 : JP) => JR p l e R s m args below meth c Q D S0 4 bc bs k41 41 [none, none, none, none] []) ?_ (fun k41 hk41 => ?_)
  · refine jr_iconst K dX11_look_41 (v := (nI 0)) (by decide) ?_
    refine jr_goto K (tgt := 52) dX11_look_42 (by decide) ?_
    exact hret _ _ _ _ _ dX11_look_52
  refine jr_if_ne K (tgt := 41) dX11_look_16 (by decide) ?_ ?_
  · exact jr_weak (hk41) trivial
  · refine jr_aload_n K dX11_look_19 rfl ?_
    refine jr_iload_n K dX11_look_20 rfl ?_
    refine jr_iconst K dX11_look_21 (v := (nI 0)) (by decide) ?_
    refine jr_iconst K dX11_look_22 (v := (nI 3)) (by decide) ?_
    refine jr_calli0 (jrun_S (As := [.int p3, .int (nI 0), .int (nI 3)]) (st := [.ref this]) K (metX11_in K.hG p3 (nI 0) (nI 3) _) mtX11_in q1746 q1745 rfl rfl (Nat.le_of_ble_eq_true rfl) (by decide) ⟨Nat.zero_le _, Nat.zero_le _⟩ dX11_look_23) (fun v23 => ?_)
    refine jr_join (fun (k34 : Int32 → JP) => ∀ (s1_34 : Int32), JR p l e R s m args below meth c Q D S0 4 bc bs (k34 s1_34) 34 [some (.ref this), some (.int p1), some (.int p2), some (.int p3)] [.int s1_34, .ref this]) ?_ (fun k34 hk34 => ?_)
    · intro s1_34
      refine jr_iconst K dX11_look_34 (v := (nI 2)) (by decide) ?_
      refine jr_calli0 (jrun_V (As := [.int s1_34, .int (nI 2)]) (st := []) (ci := 11) K (metX11_throwsIf K.hG this s1_34 (nI 2) _) mtX11_throwsIf mvX11_throwsIf q1748 rfl rfl rfl (Nat.le_of_ble_eq_true rfl) (by decide) ⟨Nat.zero_le _, Nat.zero_le _⟩ dX11_look_35) (fun v35 => ?_)
      refine jr_if_eq K (tgt := 45) dX11_look_38 (by decide) ?_ ?_
      · refine jr_aload_n K dX11_look_45 rfl ?_
        refine jr_iload_n K dX11_look_46 rfl ?_
        refine jr_iload_n K dX11_look_47 rfl ?_
        refine jr_iload_n K dX11_look_48 rfl ?_
        refine jr_calli0 (jrun_V (As := [.int p1, .int p2, .int p3]) (st := []) (ci := 11) K (metX11_ofNote K.hG this p1 p2 p3 _) mtX11_ofNote mvX11_ofNote q1813 rfl rfl rfl (Nat.le_of_ble_eq_true rfl) (by decide) ⟨Nat.zero_le _, Nat.zero_le _⟩ dX11_look_49) (fun v49 => ?_)
        exact hret _ _ _ _ _ dX11_look_52
      · exact jr_weak (hk41) trivial
    refine jr_if_ne K (tgt := 33) dX11_look_26 (by decide) ?_ ?_
    · refine jr_iconst K dX11_look_33 (v := (nI 0)) (by decide) ?_
      exact jr_weak (hk34 (nI 0)) ⟨rfl, rfl, rfl, rfl, trivial⟩
    · refine jr_iconst K dX11_look_29 (v := (nI 1)) (by decide) ?_
      refine jr_goto K (tgt := 34) dX11_look_30 (by decide) ?_
      exact jr_weak (hk34 (nI 1)) ⟨rfl, rfl, rfl, rfl, trivial⟩
theorem metX11_look (hG : jG l D S0 A0) (this : Nat) (p1 : Int32) (p2 : Int32) (p3 : Int32) (Qj : Int32 → JP) : Met l yX11_look (ws_ yX11_look cX11_look 4 (some .int)) (jrm 16 0 0) (va_Pc [.ref this, .int p1, .int p2, .int p3] (jB D S0 (JX11_look this p1 p2 p3 Qj))) (va_Qi Qj (fun σ t => jRep D S0.heap.size σ t.heap) (jA S0)) 0 0 (jA S0) :=
  jr_start hG (by decide) (Nat.le_of_ble_eq_true rfl) rfl fun p e s m below meth c K hr hn => wX11_look K _ _ this p1 p2 p3 Qj (fun _ _ _ _ _ d => jr_iret K hr rfl d)
theorem wX11_draw (K : JK p l R s m args meth c D S0 A0 1 cX11_draw "MoveNotesModel" 12) (bc bs : Nat) (this : Nat) (Qj : Int32 → JP) (hret : jRetI p l e R s m args below meth c Q D S0 1 cX11_draw Qj) : JR p l e R s m args below meth c Q D S0 1 bc bs (JX11_draw this Qj) 0 [some (.ref this)] [] := by
  unfold JX11_draw
  refine jr_aload_n K dX11_draw_0 rfl ?_
  refine jr_ldcw K (v := (nI 1103515245)) q2067 (by decide) dX11_draw_1 ?_
  refine jr_aload_n K dX11_draw_4 rfl ?_
  refine jr_getI K gf_X11_459 dX11_draw_5 (fun v5 => ?_)
  refine jr_imul K dX11_draw_8 ?_
  refine jr_sipush K dX11_draw_9 (v := (nI 12345)) (by decide) ?_
  refine jr_iadd K dX11_draw_12 ?_
  refine jr_put K pf_X11_459 dX11_draw_13 rfl rfl ?_
  refine jr_aload_n K dX11_draw_16 rfl ?_
  refine jr_getI K gf_X11_459 dX11_draw_17 (fun v17 => ?_)
  refine jr_bipush K dX11_draw_20 (v := (nI 16)) (by decide) ?_
  refine jr_ishr K dX11_draw_22 ?_
  refine jr_sipush K dX11_draw_23 (v := (nI 32767)) (by decide) ?_
  refine jr_iand K dX11_draw_26 ?_
  exact hret _ _ _ _ _ dX11_draw_27
theorem metX11_draw (hG : jG l D S0 A0) (this : Nat) (Qj : Int32 → JP) : Met l yX11_draw (ws_ yX11_draw cX11_draw 1 (some .int)) (jrm 12 0 0) (va_Pc [.ref this] (jB D S0 (JX11_draw this Qj))) (va_Qi Qj (fun σ t => jRep D S0.heap.size σ t.heap) (jA S0)) 0 0 (jA S0) :=
  jr_start hG (by decide) (Nat.le_of_ble_eq_true rfl) rfl fun p e s m below meth c K hr hn => wX11_draw K _ _ this Qj (fun _ _ _ _ _ d => jr_iret K hr rfl d)
theorem wX11_makes_2 (K : JK p l R s m args meth c D S0 A0 4 cX11_makes "MoveNotesModel" 13) (bc bs : Nat) (this : Nat) (p1 : Int32) (p2 : Int32) (k33 : JP) (hk33 : JR p l e R s m args below meth c Q D S0 4 bc bs k33 33 [some (.ref this), some (.int p1), some (.int p2), none] []) : ∀ (n : Nat) (x3_2 : Int32), JR p l e R s m args below meth c Q D S0 4 bc bs (jit (FX11_makes_2 this p1 k33) (fun _ => jbot) n x3_2) 2 [some (.ref this), some (.int p1), some (.int p2), some (.int x3_2)] [] := by
  intro n
  induction n with
  | zero =>
    intro x3_2
    exact JR.bot
  | succ n ih2 =>
    intro x3_2
    show JR p l e R s m args below meth c Q D S0 4 bc bs (FX11_makes_2 this p1 k33 (jit (FX11_makes_2 this p1 k33) (fun _ => jbot) n) x3_2) 2 [some (.ref this), some (.int p1), some (.int p2), some (.int x3_2)] []
    generalize jit (FX11_makes_2 this p1 k33) (fun _ => jbot) n = rec2 at ih2 ⊢
    unfold FX11_makes_2
    refine jr_iload_n K dX11_makes_2 rfl ?_
    refine jr_bipush K dX11_makes_3 (v := (nI 36)) (by decide) ?_
    refine jr_icmp_ge K (tgt := 33) dX11_makes_5 (by decide) ?_ ?_
    · exact jr_weak (hk33) ⟨rfl, rfl, rfl, trivial⟩
    · refine jr_aload_n K dX11_makes_8 rfl ?_
      refine jr_getA K gf_X11_39 dX11_makes_9 (fun v9 => ?_)
      refine jr_bipush K dX11_makes_12 (v := (nI 36)) (by decide) ?_
      refine jr_iload_n K dX11_makes_14 rfl ?_
      refine jr_iconst K dX11_makes_15 (v := (nI 1)) (by decide) ?_
      refine jr_iadd K dX11_makes_16 ?_
      refine jr_imul K dX11_makes_17 ?_
      refine jr_iload_n K dX11_makes_18 rfl ?_
      refine jr_iadd K dX11_makes_19 ?_
      refine jr_aload_n K dX11_makes_20 rfl ?_
      refine jr_iload_n K dX11_makes_21 rfl ?_
      refine jr_iload_n K dX11_makes_22 rfl ?_
      refine jr_calli0 (jrun_V (As := [.int p1, .int x3_2]) (st := [.int (((nI 36) * (p1 + (nI 1))) + x3_2), .ref v9]) (ci := 11) K (metX11_at K.hG this p1 x3_2 _) mtX11_at mvX11_at q1845 rfl rfl rfl (Nat.le_of_ble_eq_true rfl) (by decide) ⟨Nat.zero_le _, Nat.zero_le _⟩ dX11_makes_23) (fun v23 => ?_)
      refine jr_iast K dX11_makes_26 ?_
      refine jr_iinc K (v := (x3_2 + (nI 1))) (L' := [some (.ref this), some (.int p1), some (.int p2), some (.int (x3_2 + (nI 1)))]) dX11_makes_27 rfl rfl (by decide) rfl rfl ?_
      refine jr_goto K (tgt := 2) dX11_makes_30 (by decide) ?_
      exact jr_weak (ih2 (x3_2 + (nI 1))) ⟨rfl, rfl, rfl, rfl, trivial⟩
theorem wX11_makes (K : JK p l R s m args meth c D S0 A0 4 cX11_makes "MoveNotesModel" 13) (bc bs : Nat) (this : Nat) (p1 : Int32) (p2 : Int32) (Qj : JP) (hret : jRetV p l e R s m args below meth c Q D S0 4 cX11_makes Qj) : JR p l e R s m args below meth c Q D S0 4 bc bs (JX11_makes this p1 p2 Qj) 0 [some (.ref this), some (.int p1), some (.int p2), none] [] := by
  unfold JX11_makes
  refine jr_iconst K dX11_makes_0 (v := (nI 0)) (by decide) ?_
  refine jr_istore_n K (L' := [some (.ref this), some (.int p1), some (.int p2), some (.int (nI 0))]) dX11_makes_1 (by decide) rfl rfl ?_
  refine jr_ex (fun n2 => ?_)
  refine jr_weak (wX11_makes_2 K bc bs this p1 p2 _ ?_ n2 (nI 0)) ⟨rfl, rfl, rfl, rfl, trivial⟩
  · refine jr_aload_n K dX11_makes_33 rfl ?_
    refine jr_getA K gf_X11_39 dX11_makes_34 (fun v34 => ?_)
    refine jr_bipush K dX11_makes_37 (v := (nI 36)) (by decide) ?_
    refine jr_iload_n K dX11_makes_39 rfl ?_
    refine jr_iconst K dX11_makes_40 (v := (nI 1)) (by decide) ?_
    refine jr_iadd K dX11_makes_41 ?_
    refine jr_imul K dX11_makes_42 ?_
    refine jr_iload_n K dX11_makes_43 rfl ?_
    refine jr_bipush K dX11_makes_44 (v := (nI 36)) (by decide) ?_
    refine jr_irem K dX11_makes_46 (by decide) ?_
    refine jr_iadd K dX11_makes_47 ?_
    refine jr_aload_n K dX11_makes_48 rfl ?_
    refine jr_iload_n K dX11_makes_49 rfl ?_
    refine jr_iload_n K dX11_makes_50 rfl ?_
    refine jr_bipush K dX11_makes_51 (v := (nI 36)) (by decide) ?_
    refine jr_idiv K dX11_makes_53 (by decide) ?_
    refine jr_calli0 (jrun_V (As := [.int p1, .int (p2 / (nI 36))]) (st := [.int (((nI 36) * (p1 + (nI 1))) + (jrem p2 (nI 36))), .ref v34]) (ci := 11) K (metX11_at K.hG this p1 (p2 / (nI 36)) _) mtX11_at mvX11_at q1845 rfl rfl rfl (Nat.le_of_ble_eq_true rfl) (by decide) ⟨Nat.zero_le _, Nat.zero_le _⟩ dX11_makes_54) (fun v54 => ?_)
    refine jr_iast K dX11_makes_57 ?_
    refine jr_aload_n K dX11_makes_58 rfl ?_
    refine jr_getA K gf_X11_39 dX11_makes_59 (fun v59 => ?_)
    refine jr_bipush K dX11_makes_62 (v := (nI 36)) (by decide) ?_
    refine jr_iload_n K dX11_makes_64 rfl ?_
    refine jr_iconst K dX11_makes_65 (v := (nI 1)) (by decide) ?_
    refine jr_iadd K dX11_makes_66 ?_
    refine jr_imul K dX11_makes_67 ?_
    refine jr_iload_n K dX11_makes_68 rfl ?_
    refine jr_bipush K dX11_makes_69 (v := (nI 36)) (by decide) ?_
    refine jr_idiv K dX11_makes_71 (by decide) ?_
    refine jr_iadd K dX11_makes_72 ?_
    refine jr_iconst K dX11_makes_73 (v := (-1)) (by decide) ?_
    refine jr_iast K dX11_makes_74 ?_
    exact hret _ _ _ _ dX11_makes_75
theorem metX11_makes (hG : jG l D S0 A0) (this : Nat) (p1 : Int32) (p2 : Int32) (Qj : JP) : Met l yX11_makes (ws_ yX11_makes cX11_makes 4 none) (jrm 13 0 0) (va_Pc [.ref this, .int p1, .int p2] (jB D S0 (JX11_makes this p1 p2 Qj))) (va_Qv Qj (fun σ t => jRep D S0.heap.size σ t.heap) (jA S0)) 0 0 (jA S0) :=
  jr_start hG (by decide) (Nat.le_of_ble_eq_true rfl) rfl fun p e s m below meth c K hr hn => wX11_makes K _ _ this p1 p2 Qj (fun _ _ _ _ d => jr_vret K hr d)
theorem wX11_write_133 (K : JK p l R s m args meth c D S0 A0 14 cX11_write "MoveNotesModel" 18) (bc bs : Nat) (this : Nat) (p1 : Int32) (p2 : Int32) (p3 : Int32) (Qj : Int32 → JP) (v77 : Int32) (hret : jRetI p l e R s m args below meth c Q D S0 14 cX11_write Qj) : ∀ (n : Nat) (x6_133 : Int32), JR p l e R s m args below meth c Q D S0 14 bc bs (jit (FX11_write_133 this p1 p2 p3 Qj v77) (fun _ => jbot) n x6_133) 133 [some (.ref this), some (.int p1), some (.int p2), some (.int p3), none, some (.int v77), some (.int x6_133), none, none, none, none, none, none, none] [] := by
  intro n
  induction n with
  | zero =>
    intro x6_133
    exact JR.bot
  | succ n ih133 =>
    intro x6_133
    show JR p l e R s m args below meth c Q D S0 14 bc bs (FX11_write_133 this p1 p2 p3 Qj v77 (jit (FX11_write_133 this p1 p2 p3 Qj v77) (fun _ => jbot) n) x6_133) 133 [some (.ref this), some (.int p1), some (.int p2), some (.int p3), none, some (.int v77), some (.int x6_133), none, none, none, none, none, none, none] []
    generalize jit (FX11_write_133 this p1 p2 p3 Qj v77) (fun _ => jbot) n = rec133 at ih133 ⊢
    unfold FX11_write_133
    refine jr_iload K dX11_write_133 rfl ?_
    refine jr_iload_n K dX11_write_135 rfl ?_
    refine jr_icmp_ge K (tgt := 354) dX11_write_136 (by decide) ?_ ?_
    · refine jr_iload K dX11_write_354 rfl ?_
      exact hret _ _ _ _ _ dX11_write_356
    · refine jr_aload_n K dX11_write_139 rfl ?_
      refine jr_iload K dX11_write_140 rfl ?_
      refine jr_iload K dX11_write_142 rfl ?_
      refine jr_iconst K dX11_write_144 (v := (nI 2)) (by decide) ?_
      refine jr_irem K dX11_write_145 (by decide) ?_
      refine jr_callv0 (jrun_V (As := [.int x6_133, .int (jrem x6_133 (nI 2))]) (st := []) (ci := 11) K (metX11_finds K.hG this x6_133 (jrem x6_133 (nI 2)) _) mtX11_finds mvX11_finds q1841 rfl rfl rfl (Nat.le_of_ble_eq_true rfl) (by decide) ⟨Nat.zero_le _, Nat.zero_le _⟩ dX11_write_146) ?_
      refine jr_aload_n K dX11_write_149 rfl ?_
      refine jr_iload K dX11_write_150 rfl ?_
      refine jr_calli0 (jrun_V (As := [.int x6_133]) (st := []) (ci := 11) K (metX11_manyAt K.hG this x6_133 _) mtX11_manyAt mvX11_manyAt q1875 rfl rfl rfl (Nat.le_of_ble_eq_true rfl) (by decide) ⟨Nat.zero_le _, Nat.zero_le _⟩ dX11_write_152) (fun v152 => ?_)
      refine jr_istore K (L' := [some (.ref this), some (.int p1), some (.int p2), some (.int p3), none, some (.int v77), some (.int x6_133), some (.int v152), none, none, none, none, none, none]) dX11_write_155 (by decide) rfl rfl ?_
      refine jr_iload K dX11_write_157 rfl ?_
      refine jr_if_ne K (tgt := 165) dX11_write_159 (by decide) ?_ ?_
      · refine jr_aload_n K dX11_write_165 rfl ?_
        refine jr_iload K dX11_write_166 rfl ?_
        refine jr_aload_n K dX11_write_168 rfl ?_
        refine jr_calli0 (jrun_V (As := []) (st := [.int x6_133, .ref this]) (ci := 11) K (metX11_draw K.hG this _) mtX11_draw mvX11_draw q2063 rfl rfl rfl (Nat.le_of_ble_eq_true rfl) (by decide) ⟨Nat.zero_le _, Nat.zero_le _⟩ dX11_write_169) (fun v169 => ?_)
        refine jr_iload K dX11_write_172 rfl ?_
        refine jr_and (fun hnz => ?_)
        refine jr_irem K dX11_write_174 hnz ?_
        refine jr_calli0 (jrun_V (As := [.int x6_133, .int (jrem v169 v152)]) (st := []) (ci := 11) K (metX11_moveAt K.hG this x6_133 (jrem v169 v152) _) mtX11_moveAt mvX11_moveAt q1879 rfl rfl rfl (Nat.le_of_ble_eq_true rfl) (by decide) ⟨Nat.zero_le _, Nat.zero_le _⟩ dX11_write_175) (fun v175 => ?_)
        refine jr_istore K (L' := [some (.ref this), some (.int p1), some (.int p2), some (.int p3), none, some (.int v77), some (.int x6_133), some (.int v152), some (.int v175), none, none, none, none, none]) dX11_write_178 (by decide) rfl rfl ?_
        refine jr_iload K dX11_write_180 rfl ?_
        refine jr_bipush K dX11_write_182 (v := (nI 36)) (by decide) ?_
        refine jr_irem K dX11_write_184 (by decide) ?_
        refine jr_istore K (L' := [some (.ref this), some (.int p1), some (.int p2), some (.int p3), none, some (.int v77), some (.int x6_133), some (.int v152), some (.int v175), some (.int (jrem v175 (nI 36))), none, none, none, none]) dX11_write_185 (by decide) rfl rfl ?_
        refine jr_aload_n K dX11_write_187 rfl ?_
        refine jr_iload K dX11_write_188 rfl ?_
        refine jr_iload K dX11_write_190 rfl ?_
        refine jr_bipush K dX11_write_192 (v := (nI 36)) (by decide) ?_
        refine jr_idiv K dX11_write_194 (by decide) ?_
        refine jr_calli0 (jrun_V (As := [.int x6_133, .int (v175 / (nI 36))]) (st := []) (ci := 11) K (metX11_at K.hG this x6_133 (v175 / (nI 36)) _) mtX11_at mvX11_at q1845 rfl rfl rfl (Nat.le_of_ble_eq_true rfl) (by decide) ⟨Nat.zero_le _, Nat.zero_le _⟩ dX11_write_195) (fun v195 => ?_)
        refine jr_iconst K dX11_write_198 (v := (nI 2)) (by decide) ?_
        refine jr_idiv K dX11_write_199 (by decide) ?_
        refine jr_istore K (L' := [some (.ref this), some (.int p1), some (.int p2), some (.int p3), none, some (.int v77), some (.int x6_133), some (.int v152), some (.int v175), some (.int (jrem v175 (nI 36))), some (.int (v195 / (nI 2))), none, none, none]) dX11_write_200 (by decide) rfl rfl ?_
        refine jr_iload K dX11_write_202 rfl ?_
        refine jr_bipush K dX11_write_204 (v := (nI 6)) (by decide) ?_
        refine jr_irem K dX11_write_206 (by decide) ?_
        refine jr_istore K (L' := [some (.ref this), some (.int p1), some (.int p2), some (.int p3), none, some (.int v77), some (.int x6_133), some (.int v152), some (.int v175), some (.int (jrem v175 (nI 36))), some (.int (v195 / (nI 2))), some (.int (jrem (jrem v175 (nI 36)) (nI 6))), none, none]) dX11_write_207 (by decide) rfl rfl ?_
        refine jr_iload_n K dX11_write_209 rfl ?_
        refine jr_iconst K dX11_write_210 (v := (nI 1)) (by decide) ?_
        refine jr_join (fun (k237 : Int32 → JP) => ∀ (s0_237 : Int32), JR p l e R s m args below meth c Q D S0 14 bc bs (k237 s0_237) 237 [some (.ref this), some (.int p1), some (.int p2), some (.int p3), none, some (.int v77), some (.int x6_133), none, some (.int v175), none, some (.int (v195 / (nI 2))), some (.int (jrem (jrem v175 (nI 36)) (nI 6))), none, none] [.int s0_237]) ?_ (fun k237 hk237 => ?_)
        · intro s0_237
          refine jr_istore K (L' := [some (.ref this), some (.int p1), some (.int p2), some (.int p3), none, some (.int v77), some (.int x6_133), none, some (.int v175), none, some (.int (v195 / (nI 2))), some (.int (jrem (jrem v175 (nI 36)) (nI 6))), some (.int s0_237), none]) dX11_write_237 (by decide) rfl rfl ?_
          refine jr_aload_n K dX11_write_239 rfl ?_
          refine jr_calli0 (jrun_V (As := []) (st := []) (ci := 11) K (metX11_draw K.hG this _) mtX11_draw mvX11_draw q2063 rfl rfl rfl (Nat.le_of_ble_eq_true rfl) (by decide) ⟨Nat.zero_le _, Nat.zero_le _⟩ dX11_write_240) (fun v240 => ?_)
          refine jr_bipush K dX11_write_243 (v := (nI 10)) (by decide) ?_
          refine jr_irem K dX11_write_245 (by decide) ?_
          refine jr_iload_n K dX11_write_246 rfl ?_
          refine jr_join (fun (k326 : Int32 → Int32 → Int32 → JP) => ∀ (x10_326 : Int32) (x11_326 : Int32) (x12_326 : Int32), JR p l e R s m args below meth c Q D S0 14 bc bs (k326 x10_326 x11_326 x12_326) 326 [some (.ref this), some (.int p1), some (.int p2), some (.int p3), none, some (.int v77), some (.int x6_133), none, some (.int v175), none, some (.int x10_326), some (.int x11_326), some (.int x12_326), none] []) ?_ (fun k326 hk326 => ?_)
          · intro x10_326 x11_326 x12_326
            refine jr_aload_n K dX11_write_326 rfl ?_
            refine jr_iload K dX11_write_327 rfl ?_
            refine jr_iload K dX11_write_329 rfl ?_
            refine jr_iconst K dX11_write_331 (v := (-1)) (by decide) ?_
            refine jr_iload K dX11_write_332 rfl ?_
            refine jr_iload K dX11_write_334 rfl ?_
            refine jr_calli0 (jrun_V (As := [.int v77, .int x10_326, .int (-1), .int x11_326, .int x12_326]) (st := []) (ci := 11) K (metX11_addsNote K.hG this v77 x10_326 (-1) x11_326 x12_326 _) mtX11_addsNote mvX11_addsNote q1797 rfl rfl rfl (Nat.le_of_ble_eq_true rfl) (by decide) ⟨Nat.zero_le _, Nat.zero_le _⟩ dX11_write_336) (fun v336 => ?_)
            refine jr_pop K dX11_write_339 rfl ?_
            refine jr_aload_n K dX11_write_340 rfl ?_
            refine jr_iload K dX11_write_341 rfl ?_
            refine jr_iload K dX11_write_343 rfl ?_
            refine jr_callv0 (jrun_V (As := [.int x6_133, .int v175]) (st := []) (ci := 11) K (metX11_makes K.hG this x6_133 v175 _) mtX11_makes mvX11_makes q1979 rfl rfl rfl (Nat.le_of_ble_eq_true rfl) (by decide) ⟨Nat.zero_le _, Nat.zero_le _⟩ dX11_write_345) ?_
            refine jr_iinc K (v := (x6_133 + (nI 1))) (L' := [some (.ref this), some (.int p1), some (.int p2), some (.int p3), none, some (.int v77), some (.int (x6_133 + (nI 1))), none, some (.int v175), none, some (.int x10_326), some (.int x11_326), some (.int x12_326), none]) dX11_write_348 rfl rfl (by decide) rfl rfl ?_
            refine jr_goto K (tgt := 133) dX11_write_351 (by decide) ?_
            exact jr_weak (ih133 (x6_133 + (nI 1))) ⟨rfl, rfl, rfl, rfl, rfl, rfl, trivial⟩
          refine jr_icmp_ge K (tgt := 326) dX11_write_247 (by decide) ?_ ?_
          · exact jr_weak (hk326 (v195 / (nI 2)) (jrem (jrem v175 (nI 36)) (nI 6)) s0_237) ⟨rfl, rfl, rfl, rfl, rfl, rfl, rfl, rfl, rfl, rfl, trivial⟩
          · refine jr_aload_n K dX11_write_250 rfl ?_
            refine jr_calli0 (jrun_V (As := []) (st := []) (ci := 11) K (metX11_draw K.hG this _) mtX11_draw mvX11_draw q2063 rfl rfl rfl (Nat.le_of_ble_eq_true rfl) (by decide) ⟨Nat.zero_le _, Nat.zero_le _⟩ dX11_write_251) (fun v251 => ?_)
            refine jr_iconst K dX11_write_254 (v := (nI 3)) (by decide) ?_
            refine jr_irem K dX11_write_255 (by decide) ?_
            refine jr_istore K (L' := [some (.ref this), some (.int p1), some (.int p2), some (.int p3), none, some (.int v77), some (.int x6_133), none, some (.int v175), none, some (.int (v195 / (nI 2))), some (.int (jrem (jrem v175 (nI 36)) (nI 6))), some (.int s0_237), some (.int (jrem v251 (nI 3)))]) dX11_write_256 (by decide) rfl rfl ?_
            refine jr_iload K dX11_write_258 rfl ?_
            refine jr_if_ne K (tgt := 279) dX11_write_260 (by decide) ?_ ?_
            · refine jr_iload K dX11_write_279 rfl ?_
              refine jr_iconst K dX11_write_281 (v := (nI 1)) (by decide) ?_
              refine jr_icmp_ne K (tgt := 307) dX11_write_282 (by decide) ?_ ?_
              · refine jr_iload K dX11_write_307 rfl ?_
                refine jr_iconst K dX11_write_309 (v := (nI 5)) (by decide) ?_
                refine jr_join (fun (k324 : Int32 → JP) => ∀ (s0_324 : Int32), JR p l e R s m args below meth c Q D S0 14 bc bs (k324 s0_324) 324 [some (.ref this), some (.int p1), some (.int p2), some (.int p3), none, some (.int v77), some (.int x6_133), none, some (.int v175), none, some (.int (v195 / (nI 2))), some (.int (jrem (jrem v175 (nI 36)) (nI 6))), none, none] [.int s0_324]) ?_ (fun k324 hk324 => ?_)
                · intro s0_324
                  refine jr_istore K (L' := [some (.ref this), some (.int p1), some (.int p2), some (.int p3), none, some (.int v77), some (.int x6_133), none, some (.int v175), none, some (.int (v195 / (nI 2))), some (.int (jrem (jrem v175 (nI 36)) (nI 6))), some (.int s0_324), none]) dX11_write_324 (by decide) rfl rfl ?_
                  exact jr_weak (hk326 (v195 / (nI 2)) (jrem (jrem v175 (nI 36)) (nI 6)) s0_324) ⟨rfl, rfl, rfl, rfl, rfl, rfl, rfl, rfl, rfl, rfl, trivial⟩
                refine jr_icmp_ne K (tgt := 320) dX11_write_310 (by decide) ?_ ?_
                · refine jr_iload K dX11_write_320 rfl ?_
                  refine jr_iconst K dX11_write_322 (v := (nI 1)) (by decide) ?_
                  refine jr_iadd K dX11_write_323 ?_
                  exact jr_weak (hk324 (s0_237 + (nI 1))) ⟨rfl, rfl, rfl, rfl, rfl, rfl, rfl, rfl, rfl, trivial⟩
                · refine jr_iload K dX11_write_313 rfl ?_
                  refine jr_iconst K dX11_write_315 (v := (nI 1)) (by decide) ?_
                  refine jr_isub K dX11_write_316 ?_
                  refine jr_goto K (tgt := 324) dX11_write_317 (by decide) ?_
                  exact jr_weak (hk324 (s0_237 - (nI 1))) ⟨rfl, rfl, rfl, rfl, rfl, rfl, rfl, rfl, rfl, trivial⟩
              · refine jr_iload K dX11_write_285 rfl ?_
                refine jr_iconst K dX11_write_287 (v := (nI 5)) (by decide) ?_
                refine jr_join (fun (k302 : Int32 → JP) => ∀ (s0_302 : Int32), JR p l e R s m args below meth c Q D S0 14 bc bs (k302 s0_302) 302 [some (.ref this), some (.int p1), some (.int p2), some (.int p3), none, some (.int v77), some (.int x6_133), none, some (.int v175), none, some (.int (v195 / (nI 2))), none, some (.int s0_237), none] [.int s0_302]) ?_ (fun k302 hk302 => ?_)
                · intro s0_302
                  refine jr_istore K (L' := [some (.ref this), some (.int p1), some (.int p2), some (.int p3), none, some (.int v77), some (.int x6_133), none, some (.int v175), none, some (.int (v195 / (nI 2))), some (.int s0_302), some (.int s0_237), none]) dX11_write_302 (by decide) rfl rfl ?_
                  refine jr_goto K (tgt := 326) dX11_write_304 (by decide) ?_
                  exact jr_weak (hk326 (v195 / (nI 2)) s0_302 s0_237) ⟨rfl, rfl, rfl, rfl, rfl, rfl, rfl, rfl, rfl, rfl, trivial⟩
                refine jr_icmp_ne K (tgt := 298) dX11_write_288 (by decide) ?_ ?_
                · refine jr_iload K dX11_write_298 rfl ?_
                  refine jr_iconst K dX11_write_300 (v := (nI 1)) (by decide) ?_
                  refine jr_iadd K dX11_write_301 ?_
                  exact jr_weak (hk302 ((jrem (jrem v175 (nI 36)) (nI 6)) + (nI 1))) ⟨rfl, rfl, rfl, rfl, rfl, rfl, rfl, rfl, rfl, trivial⟩
                · refine jr_iload K dX11_write_291 rfl ?_
                  refine jr_iconst K dX11_write_293 (v := (nI 1)) (by decide) ?_
                  refine jr_isub K dX11_write_294 ?_
                  refine jr_goto K (tgt := 302) dX11_write_295 (by decide) ?_
                  exact jr_weak (hk302 ((jrem (jrem v175 (nI 36)) (nI 6)) - (nI 1))) ⟨rfl, rfl, rfl, rfl, rfl, rfl, rfl, rfl, rfl, trivial⟩
            · refine jr_iload K dX11_write_263 rfl ?_
              refine jr_iconst K dX11_write_265 (v := (nI 1)) (by decide) ?_
              refine jr_iadd K dX11_write_266 ?_
              refine jr_aload_n K dX11_write_267 rfl ?_
              refine jr_getA K gf_X11_13 dX11_write_268 (fun v268 => ?_)
              refine jr_iconst K dX11_write_271 (v := (nI 0)) (by decide) ?_
              refine jr_iald K dX11_write_272 (fun v272 => ?_)
              refine jr_and (fun hnz => ?_)
              refine jr_irem K dX11_write_273 hnz ?_
              refine jr_istore K (L' := [some (.ref this), some (.int p1), some (.int p2), some (.int p3), none, some (.int v77), some (.int x6_133), none, some (.int v175), none, some (.int (jrem ((v195 / (nI 2)) + (nI 1)) v272)), some (.int (jrem (jrem v175 (nI 36)) (nI 6))), some (.int s0_237), some (.int (jrem v251 (nI 3)))]) dX11_write_274 (by decide) rfl rfl ?_
              refine jr_goto K (tgt := 326) dX11_write_276 (by decide) ?_
              exact jr_weak (hk326 (jrem ((v195 / (nI 2)) + (nI 1)) v272) (jrem (jrem v175 (nI 36)) (nI 6)) s0_237) ⟨rfl, rfl, rfl, rfl, rfl, rfl, rfl, rfl, rfl, rfl, trivial⟩
        refine jr_join (fun (k232 : JP) => JR p l e R s m args below meth c Q D S0 14 bc bs k232 232 [some (.ref this), some (.int p1), some (.int p2), some (.int p3), none, some (.int v77), some (.int x6_133), none, some (.int v175), some (.int (jrem v175 (nI 36))), some (.int (v195 / (nI 2))), some (.int (jrem (jrem v175 (nI 36)) (nI 6))), none, none] []) ?_ (fun k232 hk232 => ?_)
        · refine jr_iload K dX11_write_232 rfl ?_
          refine jr_bipush K dX11_write_234 (v := (nI 6)) (by decide) ?_
          refine jr_idiv K dX11_write_236 (by decide) ?_
          exact jr_weak (hk237 ((jrem v175 (nI 36)) / (nI 6))) ⟨rfl, rfl, rfl, rfl, rfl, rfl, rfl, rfl, rfl, trivial⟩
        refine jr_icmp_ne K (tgt := 232) dX11_write_211 (by decide) ?_ ?_
        · exact jr_weak (hk232) ⟨rfl, rfl, rfl, rfl, rfl, rfl, rfl, rfl, rfl, rfl, trivial⟩
        · refine jr_iload K dX11_write_214 rfl ?_
          refine jr_iconst K dX11_write_216 (v := (nI 2)) (by decide) ?_
          refine jr_irem K dX11_write_217 (by decide) ?_
          refine jr_iconst K dX11_write_218 (v := (nI 1)) (by decide) ?_
          refine jr_icmp_ne K (tgt := 232) dX11_write_219 (by decide) ?_ ?_
          · exact jr_weak (hk232) ⟨rfl, rfl, rfl, rfl, rfl, rfl, rfl, rfl, rfl, rfl, trivial⟩
          · refine jr_iconst K dX11_write_222 (v := (nI 5)) (by decide) ?_
            refine jr_iload K dX11_write_223 rfl ?_
            refine jr_bipush K dX11_write_225 (v := (nI 6)) (by decide) ?_
            refine jr_idiv K dX11_write_227 (by decide) ?_
            refine jr_isub K dX11_write_228 ?_
            refine jr_goto K (tgt := 237) dX11_write_229 (by decide) ?_
            exact jr_weak (hk237 ((nI 5) - ((jrem v175 (nI 36)) / (nI 6)))) ⟨rfl, rfl, rfl, rfl, rfl, rfl, rfl, rfl, rfl, trivial⟩
      · refine jr_iload K dX11_write_162 rfl ?_
        exact hret _ _ _ _ _ dX11_write_164
theorem wX11_write (K : JK p l R s m args meth c D S0 A0 14 cX11_write "MoveNotesModel" 18) (bc bs : Nat) (this : Nat) (p1 : Int32) (p2 : Int32) (p3 : Int32) (p4 : Int32) (Qj : Int32 → JP) (hret : jRetI p l e R s m args below meth c Q D S0 14 cX11_write Qj) : JR p l e R s m args below meth c Q D S0 14 bc bs (JX11_write this p1 p2 p3 p4 Qj) 0 [some (.ref this), some (.int p1), some (.int p2), some (.int p3), some (.int p4), none, none, none, none, none, none, none, none, none] [] := by
  unfold JX11_write
  refine jr_aload_n K dX11_write_0 rfl ?_
  refine jr_iconst K dX11_write_1 (v := (nI 0)) (by decide) ?_
  refine jr_put K pf_X11_3 dX11_write_2 rfl rfl ?_
  refine jr_aload_n K dX11_write_5 rfl ?_
  refine jr_iload_n K dX11_write_6 rfl ?_
  refine jr_iconst K dX11_write_7 (v := (nI 0)) (by decide) ?_
  refine jr_iconst K dX11_write_8 (v := (nI 1)) (by decide) ?_
  refine jr_calli0 (jrun_S (As := [.int p1, .int (nI 0), .int (nI 1)]) (st := [.ref this]) K (metX11_in K.hG p1 (nI 0) (nI 1) _) mtX11_in q1746 q1745 rfl rfl (Nat.le_of_ble_eq_true rfl) (by decide) ⟨Nat.zero_le _, Nat.zero_le _⟩ dX11_write_9) (fun v9 => ?_)
  refine jr_join (fun (k40 : Int32 → JP) => ∀ (s1_40 : Int32), JR p l e R s m args below meth c Q D S0 14 bc bs (k40 s1_40) 40 [some (.ref this), some (.int p1), some (.int p2), some (.int p3), some (.int p4), none, none, none, none, none, none, none, none, none] [.int s1_40, .ref this]) ?_ (fun k40 hk40 => ?_)
  · intro s1_40
    refine jr_iconst K dX11_write_40 (v := (nI 1)) (by decide) ?_
    refine jr_calli0 (jrun_V (As := [.int s1_40, .int (nI 1)]) (st := []) (ci := 11) K (metX11_throwsIf K.hG this s1_40 (nI 1) _) mtX11_throwsIf mvX11_throwsIf q1748 rfl rfl rfl (Nat.le_of_ble_eq_true rfl) (by decide) ⟨Nat.zero_le _, Nat.zero_le _⟩ dX11_write_41) (fun v41 => ?_)
    refine jr_if_ne K (tgt := 70) dX11_write_44 (by decide) ?_ ?_
    · refine jr_iconst K dX11_write_70 (v := (nI 0)) (by decide) ?_
      exact hret _ _ _ _ _ dX11_write_71
    · refine jr_aload_n K dX11_write_47 rfl ?_
      refine jr_aload_n K dX11_write_48 rfl ?_
      refine jr_getA K gf_X11_13 dX11_write_49 (fun v49 => ?_)
      refine jr_iconst K dX11_write_52 (v := (nI 1)) (by decide) ?_
      refine jr_iald K dX11_write_53 (fun v53 => ?_)
      refine jr_iconst K dX11_write_54 (v := (nI 3)) (by decide) ?_
      refine jr_join (fun (k63 : Int32 → JP) => ∀ (s1_63 : Int32), JR p l e R s m args below meth c Q D S0 14 bc bs (k63 s1_63) 63 [some (.ref this), some (.int p1), some (.int p2), some (.int p3), some (.int p4), none, none, none, none, none, none, none, none, none] [.int s1_63, .ref this]) ?_ (fun k63 hk63 => ?_)
      · intro s1_63
        refine jr_iconst K dX11_write_63 (v := (nI 2)) (by decide) ?_
        refine jr_calli0 (jrun_V (As := [.int s1_63, .int (nI 2)]) (st := []) (ci := 11) K (metX11_throwsIf K.hG this s1_63 (nI 2) _) mtX11_throwsIf mvX11_throwsIf q1748 rfl rfl rfl (Nat.le_of_ble_eq_true rfl) (by decide) ⟨Nat.zero_le _, Nat.zero_le _⟩ dX11_write_64) (fun v64 => ?_)
        refine jr_if_eq K (tgt := 72) dX11_write_67 (by decide) ?_ ?_
        · refine jr_aload_n K dX11_write_72 rfl ?_
          refine jr_getA K gf_X11_13 dX11_write_73 (fun v73 => ?_)
          refine jr_iconst K dX11_write_76 (v := (nI 1)) (by decide) ?_
          refine jr_iald K dX11_write_77 (fun v77 => ?_)
          refine jr_istore K (L' := [some (.ref this), some (.int p1), some (.int p2), some (.int p3), some (.int p4), some (.int v77), none, none, none, none, none, none, none, none]) dX11_write_78 (by decide) rfl rfl ?_
          refine jr_aload_n K dX11_write_80 rfl ?_
          refine jr_getA K gf_X11_13 dX11_write_81 (fun v81 => ?_)
          refine jr_bipush K dX11_write_84 (v := (nI 119)) (by decide) ?_
          refine jr_bipush K dX11_write_86 (v := (nI 98)) (by decide) ?_
          refine jr_iload K dX11_write_88 rfl ?_
          refine jr_imul K dX11_write_90 ?_
          refine jr_iadd K dX11_write_91 ?_
          refine jr_iload_n K dX11_write_92 rfl ?_
          refine jr_iast K dX11_write_93 ?_
          refine jr_aload_n K dX11_write_94 rfl ?_
          refine jr_getA K gf_X11_13 dX11_write_95 (fun v95 => ?_)
          refine jr_bipush K dX11_write_98 (v := (nI 119)) (by decide) ?_
          refine jr_bipush K dX11_write_100 (v := (nI 98)) (by decide) ?_
          refine jr_iload K dX11_write_102 rfl ?_
          refine jr_imul K dX11_write_104 ?_
          refine jr_iadd K dX11_write_105 ?_
          refine jr_iconst K dX11_write_106 (v := (nI 1)) (by decide) ?_
          refine jr_iadd K dX11_write_107 ?_
          refine jr_iconst K dX11_write_108 (v := (nI 0)) (by decide) ?_
          refine jr_iast K dX11_write_109 ?_
          refine jr_aload_n K dX11_write_110 rfl ?_
          refine jr_getA K gf_X11_13 dX11_write_111 (fun v111 => ?_)
          refine jr_iconst K dX11_write_114 (v := (nI 1)) (by decide) ?_
          refine jr_dup2 K dX11_write_115 rfl rfl ?_
          refine jr_iald K dX11_write_116 (fun v116 => ?_)
          refine jr_iconst K dX11_write_117 (v := (nI 1)) (by decide) ?_
          refine jr_iadd K dX11_write_118 ?_
          refine jr_iast K dX11_write_119 ?_
          refine jr_aload_n K dX11_write_120 rfl ?_
          refine jr_iload K dX11_write_121 rfl ?_
          refine jr_put K pf_X11_459 dX11_write_123 rfl rfl ?_
          refine jr_aload_n K dX11_write_126 rfl ?_
          refine jr_callv0 (jrun_V (As := []) (st := []) (ci := 11) K (metX11_begins K.hG this _) mtX11_begins mvX11_begins q1837 rfl rfl rfl (Nat.le_of_ble_eq_true rfl) (by decide) ⟨Nat.zero_le _, Nat.zero_le _⟩ dX11_write_127) ?_
          refine jr_iconst K dX11_write_130 (v := (nI 0)) (by decide) ?_
          refine jr_istore K (L' := [some (.ref this), some (.int p1), some (.int p2), some (.int p3), some (.int p4), some (.int v77), some (.int (nI 0)), none, none, none, none, none, none, none]) dX11_write_131 (by decide) rfl rfl ?_
          refine jr_ex (fun n133 => ?_)
          refine jr_weak (wX11_write_133 K bc bs this p1 p2 p3 Qj v77 hret n133 (nI 0)) ⟨rfl, rfl, rfl, rfl, rfl, rfl, trivial⟩
        · refine jr_iconst K dX11_write_70 (v := (nI 0)) (by decide) ?_
          exact hret _ _ _ _ _ dX11_write_71
      refine jr_icmp_ne K (tgt := 62) dX11_write_55 (by decide) ?_ ?_
      · refine jr_iconst K dX11_write_62 (v := (nI 0)) (by decide) ?_
        exact jr_weak (hk63 (nI 0)) ⟨rfl, rfl, rfl, rfl, rfl, trivial⟩
      · refine jr_iconst K dX11_write_58 (v := (nI 1)) (by decide) ?_
        refine jr_goto K (tgt := 63) dX11_write_59 (by decide) ?_
        exact jr_weak (hk63 (nI 1)) ⟨rfl, rfl, rfl, rfl, rfl, trivial⟩
  refine jr_join (fun (k35 : JP) => JR p l e R s m args below meth c Q D S0 14 bc bs k35 35 [some (.ref this), some (.int p1), some (.int p2), some (.int p3), some (.int p4), none, none, none, none, none, none, none, none, none] [.ref this]) ?_ (fun k35 hk35 => ?_)
  · refine jr_iconst K dX11_write_35 (v := (nI 1)) (by decide) ?_
    refine jr_goto K (tgt := 40) dX11_write_36 (by decide) ?_
    exact jr_weak (hk40 (nI 1)) ⟨rfl, rfl, rfl, rfl, rfl, trivial⟩
  refine jr_if_eq K (tgt := 35) dX11_write_12 (by decide) ?_ ?_
  · exact jr_weak (hk35) ⟨rfl, rfl, rfl, rfl, rfl, trivial⟩
  · refine jr_iload_n K dX11_write_15 rfl ?_
    refine jr_iconst K dX11_write_16 (v := (nI 1)) (by decide) ?_
    refine jr_bipush K dX11_write_17 (v := (nI 24)) (by decide) ?_
    refine jr_calli0 (jrun_S (As := [.int p2, .int (nI 1), .int (nI 24)]) (st := [.ref this]) K (metX11_in K.hG p2 (nI 1) (nI 24) _) mtX11_in q1746 q1745 rfl rfl (Nat.le_of_ble_eq_true rfl) (by decide) ⟨Nat.zero_le _, Nat.zero_le _⟩ dX11_write_19) (fun v19 => ?_)
    refine jr_if_eq K (tgt := 35) dX11_write_22 (by decide) ?_ ?_
    · exact jr_weak (hk35) ⟨rfl, rfl, rfl, rfl, rfl, trivial⟩
    · refine jr_iload_n K dX11_write_25 rfl ?_
      refine jr_iconst K dX11_write_26 (v := (nI 0)) (by decide) ?_
      refine jr_bipush K dX11_write_27 (v := (nI 9)) (by decide) ?_
      refine jr_calli0 (jrun_S (As := [.int p3, .int (nI 0), .int (nI 9)]) (st := [.ref this]) K (metX11_in K.hG p3 (nI 0) (nI 9) _) mtX11_in q1746 q1745 rfl rfl (Nat.le_of_ble_eq_true rfl) (by decide) ⟨Nat.zero_le _, Nat.zero_le _⟩ dX11_write_29) (fun v29 => ?_)
      refine jr_if_ne K (tgt := 39) dX11_write_32 (by decide) ?_ ?_
      · refine jr_iconst K dX11_write_39 (v := (nI 0)) (by decide) ?_
        exact jr_weak (hk40 (nI 0)) ⟨rfl, rfl, rfl, rfl, rfl, trivial⟩
      · exact jr_weak (hk35) ⟨rfl, rfl, rfl, rfl, rfl, trivial⟩
theorem metX11_write (hG : jG l D S0 A0) (this : Nat) (p1 : Int32) (p2 : Int32) (p3 : Int32) (p4 : Int32) (Qj : Int32 → JP) : Met l yX11_write (ws_ yX11_write cX11_write 14 (some .int)) (jrm 18 0 0) (va_Pc [.ref this, .int p1, .int p2, .int p3, .int p4] (jB D S0 (JX11_write this p1 p2 p3 p4 Qj))) (va_Qi Qj (fun σ t => jRep D S0.heap.size σ t.heap) (jA S0)) 0 0 (jA S0) :=
  jr_start hG (by decide) (Nat.le_of_ble_eq_true rfl) rfl fun p e s m below meth c K hr hn => wX11_write K _ _ this p1 p2 p3 p4 Qj (fun _ _ _ _ _ d => jr_iret K hr rfl d)
theorem wX11_price (K : JK p l R s m args meth c D S0 A0 4 cX11_price "MoveNotesModel" 13) (bc bs : Nat) (this : Nat) (p1 : Int32) (p2 : Int32) (Qj : Int32 → JP) (hret : jRetI p l e R s m args below meth c Q D S0 4 cX11_price Qj) : JR p l e R s m args below meth c Q D S0 4 bc bs (JX11_price this p1 p2 Qj) 0 [some (.ref this), some (.int p1), some (.int p2), none] [] := by
  unfold JX11_price
  refine jr_aload_n K dX11_price_0 rfl ?_
  refine jr_iconst K dX11_price_1 (v := (nI 0)) (by decide) ?_
  refine jr_put K pf_X11_3 dX11_price_2 rfl rfl ?_
  refine jr_aload_n K dX11_price_5 rfl ?_
  refine jr_iload_n K dX11_price_6 rfl ?_
  refine jr_iconst K dX11_price_7 (v := (nI 1)) (by decide) ?_
  refine jr_bipush K dX11_price_8 (v := (nI 7)) (by decide) ?_
  refine jr_calli0 (jrun_S (As := [.int p1, .int (nI 1), .int (nI 7)]) (st := [.ref this]) K (metX11_in K.hG p1 (nI 1) (nI 7) _) mtX11_in q1746 q1745 rfl rfl (Nat.le_of_ble_eq_true rfl) (by decide) ⟨Nat.zero_le _, Nat.zero_le _⟩ dX11_price_10) (fun v10 => ?_)
  refine jr_join (fun (k21 : Int32 → JP) => ∀ (s1_21 : Int32), JR p l e R s m args below meth c Q D S0 4 bc bs (k21 s1_21) 21 [some (.ref this), some (.int p1), some (.int p2), none] [.int s1_21, .ref this]) ?_ (fun k21 hk21 => ?_)
  · intro s1_21
    refine jr_iconst K dX11_price_21 (v := (nI 1)) (by decide) ?_
    refine jr_calli0 (jrun_V (As := [.int s1_21, .int (nI 1)]) (st := []) (ci := 11) K (metX11_throwsIf K.hG this s1_21 (nI 1) _) mtX11_throwsIf mvX11_throwsIf q1748 rfl rfl rfl (Nat.le_of_ble_eq_true rfl) (by decide) ⟨Nat.zero_le _, Nat.zero_le _⟩ dX11_price_22) (fun v22 => ?_)
    refine jr_if_ne K (tgt := 51) dX11_price_25 (by decide) ?_ ?_
    · refine jr_iconst K dX11_price_51 (v := (nI 0)) (by decide) ?_
      exact hret _ _ _ _ _ dX11_price_52
    · refine jr_aload_n K dX11_price_28 rfl ?_
      refine jr_iload_n K dX11_price_29 rfl ?_
      refine jr_iconst K dX11_price_30 (v := (nI 0)) (by decide) ?_
      refine jr_bipush K dX11_price_31 (v := (nI 9)) (by decide) ?_
      refine jr_calli0 (jrun_S (As := [.int p2, .int (nI 0), .int (nI 9)]) (st := [.ref this]) K (metX11_in K.hG p2 (nI 0) (nI 9) _) mtX11_in q1746 q1745 rfl rfl (Nat.le_of_ble_eq_true rfl) (by decide) ⟨Nat.zero_le _, Nat.zero_le _⟩ dX11_price_33) (fun v33 => ?_)
      refine jr_join (fun (k44 : Int32 → JP) => ∀ (s1_44 : Int32), JR p l e R s m args below meth c Q D S0 4 bc bs (k44 s1_44) 44 [some (.ref this), some (.int p1), some (.int p2), none] [.int s1_44, .ref this]) ?_ (fun k44 hk44 => ?_)
      · intro s1_44
        refine jr_iconst K dX11_price_44 (v := (nI 2)) (by decide) ?_
        refine jr_calli0 (jrun_V (As := [.int s1_44, .int (nI 2)]) (st := []) (ci := 11) K (metX11_throwsIf K.hG this s1_44 (nI 2) _) mtX11_throwsIf mvX11_throwsIf q1748 rfl rfl rfl (Nat.le_of_ble_eq_true rfl) (by decide) ⟨Nat.zero_le _, Nat.zero_le _⟩ dX11_price_45) (fun v45 => ?_)
        refine jr_if_eq K (tgt := 53) dX11_price_48 (by decide) ?_ ?_
        · refine jr_aload_n K dX11_price_53 rfl ?_
          refine jr_getA K gf_X11_13 dX11_price_54 (fun v54 => ?_)
          refine jr_iconst K dX11_price_57 (v := (nI 5)) (by decide) ?_
          refine jr_iload_n K dX11_price_58 rfl ?_
          refine jr_iadd K dX11_price_59 ?_
          refine jr_iald K dX11_price_60 (fun v60 => ?_)
          refine jr_istore_n K (L' := [some (.ref this), some (.int p1), some (.int p2), some (.int v60)]) dX11_price_61 (by decide) rfl rfl ?_
          refine jr_aload_n K dX11_price_62 rfl ?_
          refine jr_getA K gf_X11_13 dX11_price_63 (fun v63 => ?_)
          refine jr_iconst K dX11_price_66 (v := (nI 5)) (by decide) ?_
          refine jr_iload_n K dX11_price_67 rfl ?_
          refine jr_iadd K dX11_price_68 ?_
          refine jr_iload_n K dX11_price_69 rfl ?_
          refine jr_iast K dX11_price_70 ?_
          refine jr_iload_n K dX11_price_71 rfl ?_
          exact hret _ _ _ _ _ dX11_price_72
        · refine jr_iconst K dX11_price_51 (v := (nI 0)) (by decide) ?_
          exact hret _ _ _ _ _ dX11_price_52
      refine jr_if_ne K (tgt := 43) dX11_price_36 (by decide) ?_ ?_
      · refine jr_iconst K dX11_price_43 (v := (nI 0)) (by decide) ?_
        exact jr_weak (hk44 (nI 0)) ⟨rfl, rfl, rfl, trivial⟩
      · refine jr_iconst K dX11_price_39 (v := (nI 1)) (by decide) ?_
        refine jr_goto K (tgt := 44) dX11_price_40 (by decide) ?_
        exact jr_weak (hk44 (nI 1)) ⟨rfl, rfl, rfl, trivial⟩
  refine jr_if_ne K (tgt := 20) dX11_price_13 (by decide) ?_ ?_
  · refine jr_iconst K dX11_price_20 (v := (nI 0)) (by decide) ?_
    exact jr_weak (hk21 (nI 0)) ⟨rfl, rfl, rfl, trivial⟩
  · refine jr_iconst K dX11_price_16 (v := (nI 1)) (by decide) ?_
    refine jr_goto K (tgt := 21) dX11_price_17 (by decide) ?_
    exact jr_weak (hk21 (nI 1)) ⟨rfl, rfl, rfl, trivial⟩
theorem metX11_price (hG : jG l D S0 A0) (this : Nat) (p1 : Int32) (p2 : Int32) (Qj : Int32 → JP) : Met l yX11_price (ws_ yX11_price cX11_price 4 (some .int)) (jrm 13 0 0) (va_Pc [.ref this, .int p1, .int p2] (jB D S0 (JX11_price this p1 p2 Qj))) (va_Qi Qj (fun σ t => jRep D S0.heap.size σ t.heap) (jA S0)) 0 0 (jA S0) :=
  jr_start hG (by decide) (Nat.le_of_ble_eq_true rfl) rfl fun p e s m below meth c K hr hn => wX11_price K _ _ this p1 p2 Qj (fun _ _ _ _ _ d => jr_iret K hr rfl d)
theorem wX11_length (K : JK p l R s m args meth c D S0 A0 2 cX11_length "MoveNotesModel" 13) (bc bs : Nat) (this : Nat) (p1 : Int32) (Qj : JP) (hret : jRetV p l e R s m args below meth c Q D S0 2 cX11_length Qj) : JR p l e R s m args below meth c Q D S0 2 bc bs (JX11_length this p1 Qj) 0 [some (.ref this), some (.int p1)] [] := by
  unfold JX11_length
  refine jr_aload_n K dX11_length_0 rfl ?_
  refine jr_iconst K dX11_length_1 (v := (nI 0)) (by decide) ?_
  refine jr_put K pf_X11_3 dX11_length_2 rfl rfl ?_
  refine jr_aload_n K dX11_length_5 rfl ?_
  refine jr_iload_n K dX11_length_6 rfl ?_
  refine jr_iconst K dX11_length_7 (v := (-1)) (by decide) ?_
  refine jr_bipush K dX11_length_8 (v := (nI 30)) (by decide) ?_
  refine jr_calli0 (jrun_S (As := [.int p1, .int (-1), .int (nI 30)]) (st := [.ref this]) K (metX11_in K.hG p1 (-1) (nI 30) _) mtX11_in q1746 q1745 rfl rfl (Nat.le_of_ble_eq_true rfl) (by decide) ⟨Nat.zero_le _, Nat.zero_le _⟩ dX11_length_10) (fun v10 => ?_)
  refine jr_join (fun (k21 : Int32 → JP) => ∀ (s1_21 : Int32), JR p l e R s m args below meth c Q D S0 2 bc bs (k21 s1_21) 21 [some (.ref this), some (.int p1)] [.int s1_21, .ref this]) ?_ (fun k21 hk21 => ?_)
  · intro s1_21
    refine jr_iconst K dX11_length_21 (v := (nI 1)) (by decide) ?_
    refine jr_calli0 (jrun_V (As := [.int s1_21, .int (nI 1)]) (st := []) (ci := 11) K (metX11_throwsIf K.hG this s1_21 (nI 1) _) mtX11_throwsIf mvX11_throwsIf q1748 rfl rfl rfl (Nat.le_of_ble_eq_true rfl) (by decide) ⟨Nat.zero_le _, Nat.zero_le _⟩ dX11_length_22) (fun v22 => ?_)
    refine jr_if_eq K (tgt := 29) dX11_length_25 (by decide) ?_ ?_
    · refine jr_aload_n K dX11_length_29 rfl ?_
      refine jr_getA K gf_X11_13 dX11_length_30 (fun v30 => ?_)
      refine jr_iconst K dX11_length_33 (v := (nI 3)) (by decide) ?_
      refine jr_iload_n K dX11_length_34 rfl ?_
      refine jr_iast K dX11_length_35 ?_
      exact hret _ _ _ _ dX11_length_36
    · exact hret _ _ _ _ dX11_length_28
  refine jr_if_ne K (tgt := 20) dX11_length_13 (by decide) ?_ ?_
  · refine jr_iconst K dX11_length_20 (v := (nI 0)) (by decide) ?_
    exact jr_weak (hk21 (nI 0)) ⟨rfl, rfl, trivial⟩
  · refine jr_iconst K dX11_length_16 (v := (nI 1)) (by decide) ?_
    refine jr_goto K (tgt := 21) dX11_length_17 (by decide) ?_
    exact jr_weak (hk21 (nI 1)) ⟨rfl, rfl, trivial⟩
theorem metX11_length (hG : jG l D S0 A0) (this : Nat) (p1 : Int32) (Qj : JP) : Met l yX11_length (ws_ yX11_length cX11_length 2 none) (jrm 13 0 0) (va_Pc [.ref this, .int p1] (jB D S0 (JX11_length this p1 Qj))) (va_Qv Qj (fun σ t => jRep D S0.heap.size σ t.heap) (jA S0)) 0 0 (jA S0) :=
  jr_start hG (by decide) (Nat.le_of_ble_eq_true rfl) rfl fun p e s m below meth c K hr hn => wX11_length K _ _ this p1 Qj (fun _ _ _ _ d => jr_vret K hr d)
theorem wX11_picture (K : JK p l R s m args meth c D S0 A0 6 cX11_picture "MoveNotesModel" 15) (bc bs : Nat) (this : Nat) (p1 : Int32) (p2 : Int32) (p3 : Int32) (p4 : Int32) (Qj : Int32 → JP) (hret : jRetI p l e R s m args below meth c Q D S0 6 cX11_picture Qj) : JR p l e R s m args below meth c Q D S0 6 bc bs (JX11_picture this p1 p2 p3 p4 Qj) 0 [some (.ref this), some (.int p1), some (.int p2), some (.int p3), some (.int p4), none] [] := by
  unfold JX11_picture
  refine jr_aload_n K dX11_picture_0 rfl ?_
  refine jr_iconst K dX11_picture_1 (v := (nI 0)) (by decide) ?_
  refine jr_put K pf_X11_3 dX11_picture_2 rfl rfl ?_
  refine jr_aload_n K dX11_picture_5 rfl ?_
  refine jr_iload_n K dX11_picture_6 rfl ?_
  refine jr_calli0 (jrun_S (As := [.int p2]) (st := [.ref this]) K (metX11_noSquare K.hG p2 _) mtX11_noSquare q1761 q1760 rfl rfl (Nat.le_of_ble_eq_true rfl) (by decide) ⟨Nat.zero_le _, Nat.zero_le _⟩ dX11_picture_7) (fun v7 => ?_)
  refine jr_join (fun (k31 : Int32 → JP) => ∀ (s1_31 : Int32), JR p l e R s m args below meth c Q D S0 6 bc bs (k31 s1_31) 31 [some (.ref this), some (.int p1), some (.int p2), some (.int p3), some (.int p4), none] [.int s1_31, .ref this]) ?_ (fun k31 hk31 => ?_)
  · intro s1_31
    refine jr_iconst K dX11_picture_31 (v := (nI 1)) (by decide) ?_
    refine jr_calli0 (jrun_V (As := [.int s1_31, .int (nI 1)]) (st := []) (ci := 11) K (metX11_throwsIf K.hG this s1_31 (nI 1) _) mtX11_throwsIf mvX11_throwsIf q1748 rfl rfl rfl (Nat.le_of_ble_eq_true rfl) (by decide) ⟨Nat.zero_le _, Nat.zero_le _⟩ dX11_picture_32) (fun v32 => ?_)
    refine jr_if_ne K (tgt := 100) dX11_picture_35 (by decide) ?_ ?_
    · refine jr_iconst K dX11_picture_100 (v := (nI 0)) (by decide) ?_
      exact hret _ _ _ _ _ dX11_picture_101
    · refine jr_aload_n K dX11_picture_38 rfl ?_
      refine jr_iload_n K dX11_picture_39 rfl ?_
      refine jr_iconst K dX11_picture_40 (v := (nI 0)) (by decide) ?_
      refine jr_bipush K dX11_picture_41 (v := (nI 30)) (by decide) ?_
      refine jr_calli0 (jrun_S (As := [.int p1, .int (nI 0), .int (nI 30)]) (st := [.ref this]) K (metX11_in K.hG p1 (nI 0) (nI 30) _) mtX11_in q1746 q1745 rfl rfl (Nat.le_of_ble_eq_true rfl) (by decide) ⟨Nat.zero_le _, Nat.zero_le _⟩ dX11_picture_43) (fun v43 => ?_)
      refine jr_join (fun (k69 : Int32 → JP) => ∀ (s1_69 : Int32), JR p l e R s m args below meth c Q D S0 6 bc bs (k69 s1_69) 69 [some (.ref this), some (.int p1), some (.int p2), some (.int p3), some (.int p4), none] [.int s1_69, .ref this]) ?_ (fun k69 hk69 => ?_)
      · intro s1_69
        refine jr_iconst K dX11_picture_69 (v := (nI 2)) (by decide) ?_
        refine jr_calli0 (jrun_V (As := [.int s1_69, .int (nI 2)]) (st := []) (ci := 11) K (metX11_throwsIf K.hG this s1_69 (nI 2) _) mtX11_throwsIf mvX11_throwsIf q1748 rfl rfl rfl (Nat.le_of_ble_eq_true rfl) (by decide) ⟨Nat.zero_le _, Nat.zero_le _⟩ dX11_picture_70) (fun v70 => ?_)
        refine jr_if_ne K (tgt := 100) dX11_picture_73 (by decide) ?_ ?_
        · refine jr_iconst K dX11_picture_100 (v := (nI 0)) (by decide) ?_
          exact hret _ _ _ _ _ dX11_picture_101
        · refine jr_aload_n K dX11_picture_76 rfl ?_
          refine jr_aload_n K dX11_picture_77 rfl ?_
          refine jr_getA K gf_X11_13 dX11_picture_78 (fun v78 => ?_)
          refine jr_iconst K dX11_picture_81 (v := (nI 2)) (by decide) ?_
          refine jr_iald K dX11_picture_82 (fun v82 => ?_)
          refine jr_bipush K dX11_picture_83 (v := (nI 10)) (by decide) ?_
          refine jr_join (fun (k93 : Int32 → JP) => ∀ (s1_93 : Int32), JR p l e R s m args below meth c Q D S0 6 bc bs (k93 s1_93) 93 [some (.ref this), some (.int p1), some (.int p2), some (.int p3), some (.int p4), none] [.int s1_93, .ref this]) ?_ (fun k93 hk93 => ?_)
          · intro s1_93
            refine jr_iconst K dX11_picture_93 (v := (nI 3)) (by decide) ?_
            refine jr_calli0 (jrun_V (As := [.int s1_93, .int (nI 3)]) (st := []) (ci := 11) K (metX11_throwsIf K.hG this s1_93 (nI 3) _) mtX11_throwsIf mvX11_throwsIf q1748 rfl rfl rfl (Nat.le_of_ble_eq_true rfl) (by decide) ⟨Nat.zero_le _, Nat.zero_le _⟩ dX11_picture_94) (fun v94 => ?_)
            refine jr_if_eq K (tgt := 102) dX11_picture_97 (by decide) ?_ ?_
            · refine jr_sipush K dX11_picture_102 (v := (nI 413)) (by decide) ?_
              refine jr_iconst K dX11_picture_105 (v := (nI 3)) (by decide) ?_
              refine jr_aload_n K dX11_picture_106 rfl ?_
              refine jr_getA K gf_X11_13 dX11_picture_107 (fun v107 => ?_)
              refine jr_iconst K dX11_picture_110 (v := (nI 2)) (by decide) ?_
              refine jr_iald K dX11_picture_111 (fun v111 => ?_)
              refine jr_imul K dX11_picture_112 ?_
              refine jr_iadd K dX11_picture_113 ?_
              refine jr_istore K (L' := [some (.ref this), some (.int p1), some (.int p2), some (.int p3), some (.int p4), some (.int ((nI 413) + ((nI 3) * v111)))]) dX11_picture_114 (by decide) rfl rfl ?_
              refine jr_aload_n K dX11_picture_116 rfl ?_
              refine jr_getA K gf_X11_13 dX11_picture_117 (fun v117 => ?_)
              refine jr_iload K dX11_picture_120 rfl ?_
              refine jr_iload_n K dX11_picture_122 rfl ?_
              refine jr_iast K dX11_picture_123 ?_
              refine jr_aload_n K dX11_picture_124 rfl ?_
              refine jr_getA K gf_X11_13 dX11_picture_125 (fun v125 => ?_)
              refine jr_iload K dX11_picture_128 rfl ?_
              refine jr_iconst K dX11_picture_130 (v := (nI 1)) (by decide) ?_
              refine jr_iadd K dX11_picture_131 ?_
              refine jr_iload_n K dX11_picture_132 rfl ?_
              refine jr_iast K dX11_picture_133 ?_
              refine jr_aload_n K dX11_picture_134 rfl ?_
              refine jr_getA K gf_X11_13 dX11_picture_135 (fun v135 => ?_)
              refine jr_iload K dX11_picture_138 rfl ?_
              refine jr_iconst K dX11_picture_140 (v := (nI 2)) (by decide) ?_
              refine jr_iadd K dX11_picture_141 ?_
              refine jr_iload_n K dX11_picture_142 rfl ?_
              refine jr_iload K dX11_picture_143 rfl ?_
              refine jr_calli0 (jrun_S (As := [.int p3, .int p4]) (st := [.int (((nI 413) + ((nI 3) * v111)) + (nI 2)), .ref v135]) K (metX11_man K.hG p3 p4 _) mtX11_man q1772 q1771 rfl rfl (Nat.le_of_ble_eq_true rfl) (by decide) ⟨Nat.zero_le _, Nat.zero_le _⟩ dX11_picture_145) (fun v145 => ?_)
              refine jr_iast K dX11_picture_148 ?_
              refine jr_aload_n K dX11_picture_149 rfl ?_
              refine jr_getA K gf_X11_13 dX11_picture_150 (fun v150 => ?_)
              refine jr_iconst K dX11_picture_153 (v := (nI 2)) (by decide) ?_
              refine jr_dup2 K dX11_picture_154 rfl rfl ?_
              refine jr_iald K dX11_picture_155 (fun v155 => ?_)
              refine jr_iconst K dX11_picture_156 (v := (nI 1)) (by decide) ?_
              refine jr_iadd K dX11_picture_157 ?_
              refine jr_iast K dX11_picture_158 ?_
              refine jr_aload_n K dX11_picture_159 rfl ?_
              refine jr_getA K gf_X11_13 dX11_picture_160 (fun v160 => ?_)
              refine jr_iconst K dX11_picture_163 (v := (nI 2)) (by decide) ?_
              refine jr_iald K dX11_picture_164 (fun v164 => ?_)
              exact hret _ _ _ _ _ dX11_picture_165
            · refine jr_iconst K dX11_picture_100 (v := (nI 0)) (by decide) ?_
              exact hret _ _ _ _ _ dX11_picture_101
          refine jr_icmp_ne K (tgt := 92) dX11_picture_85 (by decide) ?_ ?_
          · refine jr_iconst K dX11_picture_92 (v := (nI 0)) (by decide) ?_
            exact jr_weak (hk93 (nI 0)) ⟨rfl, rfl, rfl, rfl, rfl, trivial⟩
          · refine jr_iconst K dX11_picture_88 (v := (nI 1)) (by decide) ?_
            refine jr_goto K (tgt := 93) dX11_picture_89 (by decide) ?_
            exact jr_weak (hk93 (nI 1)) ⟨rfl, rfl, rfl, rfl, rfl, trivial⟩
      refine jr_join (fun (k64 : JP) => JR p l e R s m args below meth c Q D S0 6 bc bs k64 64 [some (.ref this), some (.int p1), some (.int p2), some (.int p3), some (.int p4), none] [.ref this]) ?_ (fun k64 hk64 => ?_)
      · refine jr_iconst K dX11_picture_64 (v := (nI 1)) (by decide) ?_
        refine jr_goto K (tgt := 69) dX11_picture_65 (by decide) ?_
        exact jr_weak (hk69 (nI 1)) ⟨rfl, rfl, rfl, rfl, rfl, trivial⟩
      refine jr_if_eq K (tgt := 64) dX11_picture_46 (by decide) ?_ ?_
      · exact jr_weak (hk64) ⟨rfl, rfl, rfl, rfl, rfl, trivial⟩
      · refine jr_iload_n K dX11_picture_49 rfl ?_
        refine jr_iconst K dX11_picture_50 (v := (-1)) (by decide) ?_
        refine jr_join (fun (k68 : JP) => JR p l e R s m args below meth c Q D S0 6 bc bs k68 68 [some (.ref this), some (.int p1), some (.int p2), some (.int p3), some (.int p4), none] [.ref this]) ?_ (fun k68 hk68 => ?_)
        · refine jr_iconst K dX11_picture_68 (v := (nI 0)) (by decide) ?_
          exact jr_weak (hk69 (nI 0)) ⟨rfl, rfl, rfl, rfl, rfl, trivial⟩
        refine jr_icmp_eq K (tgt := 68) dX11_picture_51 (by decide) ?_ ?_
        · exact jr_weak (hk68) ⟨rfl, rfl, rfl, rfl, rfl, trivial⟩
        · refine jr_iload K dX11_picture_54 rfl ?_
          refine jr_iconst K dX11_picture_56 (v := (nI 0)) (by decide) ?_
          refine jr_iconst K dX11_picture_57 (v := (nI 1)) (by decide) ?_
          refine jr_calli0 (jrun_S (As := [.int p4, .int (nI 0), .int (nI 1)]) (st := [.ref this]) K (metX11_in K.hG p4 (nI 0) (nI 1) _) mtX11_in q1746 q1745 rfl rfl (Nat.le_of_ble_eq_true rfl) (by decide) ⟨Nat.zero_le _, Nat.zero_le _⟩ dX11_picture_58) (fun v58 => ?_)
          refine jr_if_ne K (tgt := 68) dX11_picture_61 (by decide) ?_ ?_
          · exact jr_weak (hk68) ⟨rfl, rfl, rfl, rfl, rfl, trivial⟩
          · exact jr_weak (hk64) ⟨rfl, rfl, rfl, rfl, rfl, trivial⟩
  refine jr_join (fun (k26 : JP) => JR p l e R s m args below meth c Q D S0 6 bc bs k26 26 [some (.ref this), some (.int p1), some (.int p2), some (.int p3), some (.int p4), none] [.ref this]) ?_ (fun k26 hk26 => ?_)
  · refine jr_iconst K dX11_picture_26 (v := (nI 1)) (by decide) ?_
    refine jr_goto K (tgt := 31) dX11_picture_27 (by decide) ?_
    exact jr_weak (hk31 (nI 1)) ⟨rfl, rfl, rfl, rfl, rfl, trivial⟩
  refine jr_if_ne K (tgt := 26) dX11_picture_10 (by decide) ?_ ?_
  · exact jr_weak (hk26) ⟨rfl, rfl, rfl, rfl, rfl, trivial⟩
  · refine jr_iload_n K dX11_picture_13 rfl ?_
    refine jr_iconst K dX11_picture_14 (v := (-1)) (by decide) ?_
    refine jr_join (fun (k30 : JP) => JR p l e R s m args below meth c Q D S0 6 bc bs k30 30 [some (.ref this), some (.int p1), some (.int p2), some (.int p3), some (.int p4), none] [.ref this]) ?_ (fun k30 hk30 => ?_)
    · refine jr_iconst K dX11_picture_30 (v := (nI 0)) (by decide) ?_
      exact jr_weak (hk31 (nI 0)) ⟨rfl, rfl, rfl, rfl, rfl, trivial⟩
    refine jr_icmp_eq K (tgt := 30) dX11_picture_15 (by decide) ?_ ?_
    · exact jr_weak (hk30) ⟨rfl, rfl, rfl, rfl, rfl, trivial⟩
    · refine jr_aload_n K dX11_picture_18 rfl ?_
      refine jr_iload_n K dX11_picture_19 rfl ?_
      refine jr_calli0 (jrun_V (As := [.int p3]) (st := [.ref this]) (ci := 11) K (metX11_noKind K.hG this p3 _) mtX11_noKind mvX11_noKind q1763 rfl rfl rfl (Nat.le_of_ble_eq_true rfl) (by decide) ⟨Nat.zero_le _, Nat.zero_le _⟩ dX11_picture_20) (fun v20 => ?_)
      refine jr_if_eq K (tgt := 30) dX11_picture_23 (by decide) ?_ ?_
      · exact jr_weak (hk30) ⟨rfl, rfl, rfl, rfl, rfl, trivial⟩
      · exact jr_weak (hk26) ⟨rfl, rfl, rfl, rfl, rfl, trivial⟩
theorem metX11_picture (hG : jG l D S0 A0) (this : Nat) (p1 : Int32) (p2 : Int32) (p3 : Int32) (p4 : Int32) (Qj : Int32 → JP) : Met l yX11_picture (ws_ yX11_picture cX11_picture 6 (some .int)) (jrm 15 0 0) (va_Pc [.ref this, .int p1, .int p2, .int p3, .int p4] (jB D S0 (JX11_picture this p1 p2 p3 p4 Qj))) (va_Qi Qj (fun σ t => jRep D S0.heap.size σ t.heap) (jA S0)) 0 0 (jA S0) :=
  jr_start hG (by decide) (Nat.le_of_ble_eq_true rfl) rfl fun p e s m below meth c K hr hn => wX11_picture K _ _ this p1 p2 p3 p4 Qj (fun _ _ _ _ _ d => jr_iret K hr rfl d)
theorem wX11_asksAll_46 (K : JK p l R s m args meth c D S0 A0 2 cX11_asksAll "MoveNotesModel" 13) (bc bs : Nat) (this : Nat) (Qj : JP) (hret : jRetV p l e R s m args below meth c Q D S0 2 cX11_asksAll Qj) : ∀ (n : Nat) (x1_46 : Int32), JR p l e R s m args below meth c Q D S0 2 bc bs (jit (FX11_asksAll_46 this Qj) (fun _ => jbot) n x1_46) 46 [some (.ref this), some (.int x1_46)] [] := by
  intro n
  induction n with
  | zero =>
    intro x1_46
    exact JR.bot
  | succ n ih46 =>
    intro x1_46
    show JR p l e R s m args below meth c Q D S0 2 bc bs (FX11_asksAll_46 this Qj (jit (FX11_asksAll_46 this Qj) (fun _ => jbot) n) x1_46) 46 [some (.ref this), some (.int x1_46)] []
    generalize jit (FX11_asksAll_46 this Qj) (fun _ => jbot) n = rec46 at ih46 ⊢
    unfold FX11_asksAll_46
    refine jr_iload_n K dX11_asksAll_46 rfl ?_
    refine jr_bipush K dX11_asksAll_47 (v := (nI 8)) (by decide) ?_
    refine jr_icmp_ge K (tgt := 72) dX11_asksAll_49 (by decide) ?_ ?_
    · exact hret _ _ _ _ dX11_asksAll_72
    · refine jr_aload_n K dX11_asksAll_52 rfl ?_
      refine jr_getA K gf_X11_50 dX11_asksAll_53 (fun v53 => ?_)
      refine jr_iload_n K dX11_asksAll_56 rfl ?_
      refine jr_aload_n K dX11_asksAll_57 rfl ?_
      refine jr_getA K gf_X11_13 dX11_asksAll_58 (fun v58 => ?_)
      refine jr_iconst K dX11_asksAll_61 (v := (nI 5)) (by decide) ?_
      refine jr_iload_n K dX11_asksAll_62 rfl ?_
      refine jr_iadd K dX11_asksAll_63 ?_
      refine jr_iald K dX11_asksAll_64 (fun v64 => ?_)
      refine jr_iast K dX11_asksAll_65 ?_
      refine jr_iinc K (v := (x1_46 + (nI 1))) (L' := [some (.ref this), some (.int (x1_46 + (nI 1)))]) dX11_asksAll_66 rfl rfl (by decide) rfl rfl ?_
      refine jr_goto K (tgt := 46) dX11_asksAll_69 (by decide) ?_
      exact jr_weak (ih46 (x1_46 + (nI 1))) ⟨rfl, rfl, trivial⟩
theorem wX11_asksAll_16 (K : JK p l R s m args meth c D S0 A0 2 cX11_asksAll "MoveNotesModel" 13) (bc bs : Nat) (this : Nat) (k44 : JP) (hk44 : JR p l e R s m args below meth c Q D S0 2 bc bs k44 44 [some (.ref this), none] []) : ∀ (n : Nat) (x1_16 : Int32), JR p l e R s m args below meth c Q D S0 2 bc bs (jit (FX11_asksAll_16 this k44) (fun _ => jbot) n x1_16) 16 [some (.ref this), some (.int x1_16)] [] := by
  intro n
  induction n with
  | zero =>
    intro x1_16
    exact JR.bot
  | succ n ih16 =>
    intro x1_16
    show JR p l e R s m args below meth c Q D S0 2 bc bs (FX11_asksAll_16 this k44 (jit (FX11_asksAll_16 this k44) (fun _ => jbot) n) x1_16) 16 [some (.ref this), some (.int x1_16)] []
    generalize jit (FX11_asksAll_16 this k44) (fun _ => jbot) n = rec16 at ih16 ⊢
    unfold FX11_asksAll_16
    refine jr_iload_n K dX11_asksAll_16 rfl ?_
    refine jr_aload_n K dX11_asksAll_17 rfl ?_
    refine jr_getA K gf_X11_13 dX11_asksAll_18 (fun v18 => ?_)
    refine jr_iconst K dX11_asksAll_21 (v := (nI 1)) (by decide) ?_
    refine jr_iald K dX11_asksAll_22 (fun v22 => ?_)
    refine jr_icmp_ge K (tgt := 44) dX11_asksAll_23 (by decide) ?_ ?_
    · exact jr_weak (hk44) ⟨rfl, trivial⟩
    · refine jr_aload_n K dX11_asksAll_26 rfl ?_
      refine jr_getA K gf_X11_47 dX11_asksAll_27 (fun v27 => ?_)
      refine jr_iload_n K dX11_asksAll_30 rfl ?_
      refine jr_aload_n K dX11_asksAll_31 rfl ?_
      refine jr_iload_n K dX11_asksAll_32 rfl ?_
      refine jr_iconst K dX11_asksAll_33 (v := (nI 0)) (by decide) ?_
      refine jr_calli0 (jrun_V (As := [.int x1_16, .int (nI 0)]) (st := [.int x1_16, .ref v27]) (ci := 11) K (metX11_ofBook K.hG this x1_16 (nI 0) _) mtX11_ofBook mvX11_ofBook q1793 rfl rfl rfl (Nat.le_of_ble_eq_true rfl) (by decide) ⟨Nat.zero_le _, Nat.zero_le _⟩ dX11_asksAll_34) (fun v34 => ?_)
      refine jr_iast K dX11_asksAll_37 ?_
      refine jr_iinc K (v := (x1_16 + (nI 1))) (L' := [some (.ref this), some (.int (x1_16 + (nI 1)))]) dX11_asksAll_38 rfl rfl (by decide) rfl rfl ?_
      refine jr_goto K (tgt := 16) dX11_asksAll_41 (by decide) ?_
      exact jr_weak (ih16 (x1_16 + (nI 1))) ⟨rfl, rfl, trivial⟩
theorem wX11_asksAll (K : JK p l R s m args meth c D S0 A0 2 cX11_asksAll "MoveNotesModel" 13) (bc bs : Nat) (this : Nat) (Qj : JP) (hret : jRetV p l e R s m args below meth c Q D S0 2 cX11_asksAll Qj) : JR p l e R s m args below meth c Q D S0 2 bc bs (JX11_asksAll this Qj) 0 [some (.ref this), none] [] := by
  unfold JX11_asksAll
  refine jr_aload_n K dX11_asksAll_0 rfl ?_
  refine jr_iconst K dX11_asksAll_1 (v := (nI 1)) (by decide) ?_
  refine jr_aload_n K dX11_asksAll_2 rfl ?_
  refine jr_getA K gf_X11_13 dX11_asksAll_3 (fun v3 => ?_)
  refine jr_iconst K dX11_asksAll_6 (v := (nI 1)) (by decide) ?_
  refine jr_iald K dX11_asksAll_7 (fun v7 => ?_)
  refine jr_ishl K dX11_asksAll_8 ?_
  refine jr_iconst K dX11_asksAll_9 (v := (nI 1)) (by decide) ?_
  refine jr_isub K dX11_asksAll_10 ?_
  refine jr_put K pf_X11_314 dX11_asksAll_11 rfl rfl ?_
  refine jr_iconst K dX11_asksAll_14 (v := (nI 0)) (by decide) ?_
  refine jr_istore_n K (L' := [some (.ref this), some (.int (nI 0))]) dX11_asksAll_15 (by decide) rfl rfl ?_
  refine jr_ex (fun n16 => ?_)
  refine jr_weak (wX11_asksAll_16 K bc bs this _ ?_ n16 (nI 0)) ⟨rfl, rfl, trivial⟩
  · refine jr_iconst K dX11_asksAll_44 (v := (nI 0)) (by decide) ?_
    refine jr_istore_n K (L' := [some (.ref this), some (.int (nI 0))]) dX11_asksAll_45 (by decide) rfl rfl ?_
    refine jr_ex (fun n46 => ?_)
    refine jr_weak (wX11_asksAll_46 K bc bs this Qj hret n46 (nI 0)) ⟨rfl, rfl, trivial⟩
theorem metX11_asksAll (hG : jG l D S0 A0) (this : Nat) (Qj : JP) : Met l yX11_asksAll (ws_ yX11_asksAll cX11_asksAll 2 none) (jrm 13 0 0) (va_Pc [.ref this] (jB D S0 (JX11_asksAll this Qj))) (va_Qv Qj (fun σ t => jRep D S0.heap.size σ t.heap) (jA S0)) 0 0 (jA S0) :=
  jr_start hG (by decide) (Nat.le_of_ble_eq_true rfl) rfl fun p e s m below meth c K hr hn => wX11_asksAll K _ _ this Qj (fun _ _ _ _ d => jr_vret K hr d)
theorem wX11_isAsked (K : JK p l R s m args meth c D S0 A0 2 cX11_isAsked "MoveNotesModel" 12) (bc bs : Nat) (this : Nat) (p1 : Int32) (Qj : Int32 → JP) (hret : jRetZ p l e R s m args below meth c Q D S0 2 cX11_isAsked Qj) : JR p l e R s m args below meth c Q D S0 2 bc bs (JX11_isAsked this p1 Qj) 0 [some (.ref this), some (.int p1)] [] := by
  unfold JX11_isAsked
  refine jr_aload_n K dX11_isAsked_0 rfl ?_
  refine jr_getI K gf_X11_314 dX11_isAsked_1 (fun v1 => ?_)
  refine jr_iload_n K dX11_isAsked_4 rfl ?_
  refine jr_ishr K dX11_isAsked_5 ?_
  refine jr_iconst K dX11_isAsked_6 (v := (nI 1)) (by decide) ?_
  refine jr_iand K dX11_isAsked_7 ?_
  refine jr_iconst K dX11_isAsked_8 (v := (nI 1)) (by decide) ?_
  refine jr_icmp_ne K (tgt := 16) dX11_isAsked_9 (by decide) ?_ ?_
  · refine jr_iconst K dX11_isAsked_16 (v := (nI 0)) (by decide) ?_
    exact JR.imp (fun _ h => ⟨Or.inl rfl, h⟩) (hret _ _ _ _ _ dX11_isAsked_17)
  · refine jr_iconst K dX11_isAsked_12 (v := (nI 1)) (by decide) ?_
    refine jr_goto K (tgt := 17) dX11_isAsked_13 (by decide) ?_
    exact JR.imp (fun _ h => ⟨Or.inr rfl, h⟩) (hret _ _ _ _ _ dX11_isAsked_17)
theorem metX11_isAsked (hG : jG l D S0 A0) (this : Nat) (p1 : Int32) (Qj : Int32 → JP) : Met l yX11_isAsked (ws_ yX11_isAsked cX11_isAsked 2 (some .boolean)) (jrm 12 0 0) (va_Pc [.ref this, .int p1] (jB D S0 (JX11_isAsked this p1 Qj))) (va_Qi Qj (fun σ t => jRep D S0.heap.size σ t.heap) (jA S0)) 0 0 (jA S0) :=
  jr_start hG (by decide) (Nat.le_of_ble_eq_true rfl) rfl fun p e s m below meth c K hr hn => wX11_isAsked K _ _ this p1 Qj (fun _ _ _ _ _ d => jr_zret K hr d)
theorem wX11_sumAt (K : JK p l R s m args meth c D S0 A0 3 cX11_sumAt "MoveNotesModel" 12) (bc bs : Nat) (p0 : Int32) (p1 : Int32) (p2 : Int32) (Qj : Int32 → JP) (hret : jRetI p l e R s m args below meth c Q D S0 3 cX11_sumAt Qj) : JR p l e R s m args below meth c Q D S0 3 bc bs (JX11_sumAt p0 p1 p2 Qj) 0 [some (.int p0), some (.int p1), some (.int p2)] [] := by
  unfold JX11_sumAt
  refine jr_bipush K dX11_sumAt_0 (v := (nI 25)) (by decide) ?_
  refine jr_bipush K dX11_sumAt_2 (v := (nI 31)) (by decide) ?_
  refine jr_iload_n K dX11_sumAt_4 rfl ?_
  refine jr_imul K dX11_sumAt_5 ?_
  refine jr_iload_n K dX11_sumAt_6 rfl ?_
  refine jr_iadd K dX11_sumAt_7 ?_
  refine jr_imul K dX11_sumAt_8 ?_
  refine jr_iload_n K dX11_sumAt_9 rfl ?_
  refine jr_iadd K dX11_sumAt_10 ?_
  exact hret _ _ _ _ _ dX11_sumAt_11
theorem metX11_sumAt (hG : jG l D S0 A0) (p0 : Int32) (p1 : Int32) (p2 : Int32) (Qj : Int32 → JP) : Met l yX11_sumAt (ws_ yX11_sumAt cX11_sumAt 3 (some .int)) (jrm 12 0 0) (va_Pc [.int p0, .int p1, .int p2] (jB D S0 (JX11_sumAt p0 p1 p2 Qj))) (va_Qi Qj (fun σ t => jRep D S0.heap.size σ t.heap) (jA S0)) 0 0 (jA S0) :=
  jr_start hG (by decide) (Nat.le_of_ble_eq_true rfl) rfl fun p e s m below meth c K hr hn => wX11_sumAt K _ _ p0 p1 p2 Qj (fun _ _ _ _ _ d => jr_iret K hr rfl d)
theorem wX11_fitAt (K : JK p l R s m args meth c D S0 A0 3 cX11_fitAt "MoveNotesModel" 12) (bc bs : Nat) (p0 : Int32) (p1 : Int32) (p2 : Int32) (Qj : Int32 → JP) (hret : jRetI p l e R s m args below meth c Q D S0 3 cX11_fitAt Qj) : JR p l e R s m args below meth c Q D S0 3 bc bs (JX11_fitAt p0 p1 p2 Qj) 0 [some (.int p0), some (.int p1), some (.int p2)] [] := by
  unfold JX11_fitAt
  refine jr_iconst K dX11_fitAt_0 (v := (nI 3)) (by decide) ?_
  refine jr_iload_n K dX11_fitAt_1 rfl ?_
  refine jr_imul K dX11_fitAt_2 ?_
  refine jr_iload_n K dX11_fitAt_3 rfl ?_
  refine jr_iadd K dX11_fitAt_4 ?_
  refine jr_bipush K dX11_fitAt_5 (v := (nI 24)) (by decide) ?_
  refine jr_imul K dX11_fitAt_7 ?_
  refine jr_iload_n K dX11_fitAt_8 rfl ?_
  refine jr_iadd K dX11_fitAt_9 ?_
  exact hret _ _ _ _ _ dX11_fitAt_10
theorem metX11_fitAt (hG : jG l D S0 A0) (p0 : Int32) (p1 : Int32) (p2 : Int32) (Qj : Int32 → JP) : Met l yX11_fitAt (ws_ yX11_fitAt cX11_fitAt 3 (some .int)) (jrm 12 0 0) (va_Pc [.int p0, .int p1, .int p2] (jB D S0 (JX11_fitAt p0 p1 p2 Qj))) (va_Qi Qj (fun σ t => jRep D S0.heap.size σ t.heap) (jA S0)) 0 0 (jA S0) :=
  jr_start hG (by decide) (Nat.le_of_ble_eq_true rfl) rfl fun p e s m below meth c K hr hn => wX11_fitAt K _ _ p0 p1 p2 Qj (fun _ _ _ _ _ d => jr_iret K hr rfl d)
theorem wX11_ofMove (K : JK p l R s m args meth c D S0 A0 4 cX11_ofMove "MoveNotesModel" 13) (bc bs : Nat) (this : Nat) (p1 : Int32) (p2 : Int32) (p3 : Int32) (Qj : Int32 → JP) (hret : jRetI p l e R s m args below meth c Q D S0 4 cX11_ofMove Qj) : JR p l e R s m args below meth c Q D S0 4 bc bs (JX11_ofMove this p1 p2 p3 Qj) 0 [some (.ref this), some (.int p1), some (.int p2), some (.int p3)] [] := by
  unfold JX11_ofMove
  refine jr_iload_n K dX11_ofMove_0 rfl ?_
  refine jr_join (fun (k8 : JP) => JR p l e R s m args below meth c Q D S0 4 bc bs k8 8 [none, none, none, none] []) ?_ (fun k8 hk8 => ?_)
  · refine jr_sipush K dX11_ofMove_8 (v := (nI 1000)) (by decide) ?_
    refine jr_goto K (tgt := 45) dX11_ofMove_11 (by decide) ?_
    exact hret _ _ _ _ _ dX11_ofMove_45
  refine jr_if_eq K (tgt := 8) dX11_ofMove_1 (by decide) ?_ ?_
  · exact jr_weak (hk8) trivial
  · refine jr_iload_n K dX11_ofMove_4 rfl ?_
    refine jr_if_ne K (tgt := 14) dX11_ofMove_5 (by decide) ?_ ?_
    · refine jr_aload_n K dX11_ofMove_14 rfl ?_
      refine jr_getA K gf_X11_62 dX11_ofMove_15 (fun v15 => ?_)
      refine jr_iload_n K dX11_ofMove_18 rfl ?_
      refine jr_iload_n K dX11_ofMove_19 rfl ?_
      refine jr_iconst K dX11_ofMove_20 (v := (nI 1)) (by decide) ?_
      refine jr_isub K dX11_ofMove_21 ?_
      refine jr_iload_n K dX11_ofMove_22 rfl ?_
      refine jr_iconst K dX11_ofMove_23 (v := (nI 1)) (by decide) ?_
      refine jr_isub K dX11_ofMove_24 ?_
      refine jr_calli0 (jrun_S (As := [.int p3, .int (p1 - (nI 1)), .int (p2 - (nI 1))]) (st := [.ref v15]) K (metX11_sumAt K.hG p3 (p1 - (nI 1)) (p2 - (nI 1)) _) mtX11_sumAt q1920 q1919 rfl rfl (Nat.le_of_ble_eq_true rfl) (by decide) ⟨Nat.zero_le _, Nat.zero_le _⟩ dX11_ofMove_25) (fun v25 => ?_)
      refine jr_iald K dX11_ofMove_28 (fun v28 => ?_)
      refine jr_aload_n K dX11_ofMove_29 rfl ?_
      refine jr_getA K gf_X11_56 dX11_ofMove_30 (fun v30 => ?_)
      refine jr_iload_n K dX11_ofMove_33 rfl ?_
      refine jr_iconst K dX11_ofMove_34 (v := (nI 1)) (by decide) ?_
      refine jr_isub K dX11_ofMove_35 ?_
      refine jr_iload_n K dX11_ofMove_36 rfl ?_
      refine jr_iload_n K dX11_ofMove_37 rfl ?_
      refine jr_iconst K dX11_ofMove_38 (v := (nI 1)) (by decide) ?_
      refine jr_isub K dX11_ofMove_39 ?_
      refine jr_calli0 (jrun_S (As := [.int (p1 - (nI 1)), .int p3, .int (p2 - (nI 1))]) (st := [.ref v30, .int v28]) K (metX11_fitAt K.hG (p1 - (nI 1)) p3 (p2 - (nI 1)) _) mtX11_fitAt q1923 q1922 rfl rfl (Nat.le_of_ble_eq_true rfl) (by decide) ⟨Nat.zero_le _, Nat.zero_le _⟩ dX11_ofMove_40) (fun v40 => ?_)
      refine jr_iald K dX11_ofMove_43 (fun v43 => ?_)
      refine jr_iadd K dX11_ofMove_44 ?_
      exact hret _ _ _ _ _ dX11_ofMove_45
    · exact jr_weak (hk8) trivial
theorem metX11_ofMove (hG : jG l D S0 A0) (this : Nat) (p1 : Int32) (p2 : Int32) (p3 : Int32) (Qj : Int32 → JP) : Met l yX11_ofMove (ws_ yX11_ofMove cX11_ofMove 4 (some .int)) (jrm 13 0 0) (va_Pc [.ref this, .int p1, .int p2, .int p3] (jB D S0 (JX11_ofMove this p1 p2 p3 Qj))) (va_Qi Qj (fun σ t => jRep D S0.heap.size σ t.heap) (jA S0)) 0 0 (jA S0) :=
  jr_start hG (by decide) (Nat.le_of_ble_eq_true rfl) rfl fun p e s m below meth c K hr hn => wX11_ofMove K _ _ this p1 p2 p3 Qj (fun _ _ _ _ _ d => jr_iret K hr rfl d)
theorem wX11_ofLost (K : JK p l R s m args meth c D S0 A0 4 cX11_ofLost "MoveNotesModel" 13) (bc bs : Nat) (this : Nat) (p1 : Int32) (p2 : Int32) (p3 : Int32) (Qj : Int32 → JP) (hret : jRetI p l e R s m args below meth c Q D S0 4 cX11_ofLost Qj) : JR p l e R s m args below meth c Q D S0 4 bc bs (JX11_ofLost this p1 p2 p3 Qj) 0 [some (.ref this), some (.int p1), some (.int p2), some (.int p3)] [] := by
  unfold JX11_ofLost
  refine jr_iload_n K dX11_ofLost_0 rfl ?_
  refine jr_join (fun (k14 : JP) => JR p l e R s m args below meth c Q D S0 4 bc bs k14 14 [none, none, none, none] []) ?_ (fun k14 hk14 => ?_)
  · refine jr_sipush K dX11_ofLost_14 (v := (nI 1000)) (by decide) ?_
    refine jr_goto K (tgt := 41) dX11_ofLost_17 (by decide) ?_
    exact hret _ _ _ _ _ dX11_ofLost_41
  refine jr_if_eq K (tgt := 14) dX11_ofLost_1 (by decide) ?_ ?_
  · exact jr_weak (hk14) trivial
  · refine jr_aload_n K dX11_ofLost_4 rfl ?_
    refine jr_getA K gf_X11_50 dX11_ofLost_5 (fun v5 => ?_)
    refine jr_bipush K dX11_ofLost_8 (v := (nI 6)) (by decide) ?_
    refine jr_iald K dX11_ofLost_10 (fun v10 => ?_)
    refine jr_if_ne K (tgt := 20) dX11_ofLost_11 (by decide) ?_ ?_
    · refine jr_aload_n K dX11_ofLost_20 rfl ?_
      refine jr_getA K gf_X11_62 dX11_ofLost_21 (fun v21 => ?_)
      refine jr_iload_n K dX11_ofLost_24 rfl ?_
      refine jr_iload_n K dX11_ofLost_25 rfl ?_
      refine jr_iconst K dX11_ofLost_26 (v := (nI 1)) (by decide) ?_
      refine jr_isub K dX11_ofLost_27 ?_
      refine jr_iload_n K dX11_ofLost_28 rfl ?_
      refine jr_calli0 (jrun_S (As := [.int p3, .int (p1 - (nI 1)), .int p2]) (st := [.ref v21]) K (metX11_sumAt K.hG p3 (p1 - (nI 1)) p2 _) mtX11_sumAt q1920 q1919 rfl rfl (Nat.le_of_ble_eq_true rfl) (by decide) ⟨Nat.zero_le _, Nat.zero_le _⟩ dX11_ofLost_29) (fun v29 => ?_)
      refine jr_iald K dX11_ofLost_32 (fun v32 => ?_)
      refine jr_aload_n K dX11_ofLost_33 rfl ?_
      refine jr_getA K gf_X11_50 dX11_ofLost_34 (fun v34 => ?_)
      refine jr_bipush K dX11_ofLost_37 (v := (nI 6)) (by decide) ?_
      refine jr_iald K dX11_ofLost_39 (fun v39 => ?_)
      refine jr_iadd K dX11_ofLost_40 ?_
      exact hret _ _ _ _ _ dX11_ofLost_41
    · exact jr_weak (hk14) trivial
theorem metX11_ofLost (hG : jG l D S0 A0) (this : Nat) (p1 : Int32) (p2 : Int32) (p3 : Int32) (Qj : Int32 → JP) : Met l yX11_ofLost (ws_ yX11_ofLost cX11_ofLost 4 (some .int)) (jrm 13 0 0) (va_Pc [.ref this, .int p1, .int p2, .int p3] (jB D S0 (JX11_ofLost this p1 p2 p3 Qj))) (va_Qi Qj (fun σ t => jRep D S0.heap.size σ t.heap) (jA S0)) 0 0 (jA S0) :=
  jr_start hG (by decide) (Nat.le_of_ble_eq_true rfl) rfl fun p e s m below meth c K hr hn => wX11_ofLost K _ _ this p1 p2 p3 Qj (fun _ _ _ _ _ d => jr_iret K hr rfl d)
theorem wX11_isTwice_23 (K : JK p l R s m args meth c D S0 A0 5 cX11_isTwice "MoveNotesModel" 14) (bc bs : Nat) (this : Nat) (p1 : Int32) (p2 : Int32) (Qj : Int32 → JP) (hret : jRetZ p l e R s m args below meth c Q D S0 5 cX11_isTwice Qj) : ∀ (n : Nat) (x3_23 : Int32) (x4_23 : Int32), JR p l e R s m args below meth c Q D S0 5 bc bs (jit (FX11_isTwice_23 this p1 p2 Qj) (fun _ _ => jbot) n x3_23 x4_23) 23 [some (.ref this), some (.int p1), some (.int p2), some (.int x3_23), some (.int x4_23)] [] := by
  intro n
  induction n with
  | zero =>
    intro x3_23 x4_23
    exact JR.bot
  | succ n ih23 =>
    intro x3_23 x4_23
    show JR p l e R s m args below meth c Q D S0 5 bc bs (FX11_isTwice_23 this p1 p2 Qj (jit (FX11_isTwice_23 this p1 p2 Qj) (fun _ _ => jbot) n) x3_23 x4_23) 23 [some (.ref this), some (.int p1), some (.int p2), some (.int x3_23), some (.int x4_23)] []
    generalize jit (FX11_isTwice_23 this p1 p2 Qj) (fun _ _ => jbot) n = rec23 at ih23 ⊢
    unfold FX11_isTwice_23
    refine jr_iload K dX11_isTwice_23 rfl ?_
    refine jr_iconst K dX11_isTwice_25 (v := (nI 4)) (by decide) ?_
    refine jr_icmp_ge K (tgt := 66) dX11_isTwice_26 (by decide) ?_ ?_
    · refine jr_iload_n K dX11_isTwice_66 rfl ?_
      exact hret _ _ _ _ _ dX11_isTwice_67
    · refine jr_iload_n K dX11_isTwice_29 rfl ?_
      refine jr_if_eq K (tgt := 66) dX11_isTwice_30 (by decide) ?_ ?_
      · refine jr_iload_n K dX11_isTwice_66 rfl ?_
        exact hret _ _ _ _ _ dX11_isTwice_67
      · refine jr_aload_n K dX11_isTwice_33 rfl ?_
        refine jr_iload_n K dX11_isTwice_34 rfl ?_
        refine jr_iload_n K dX11_isTwice_35 rfl ?_
        refine jr_iload K dX11_isTwice_36 rfl ?_
        refine jr_calli0 (jrun_V (As := [.int p1, .int p2, .int x4_23]) (st := []) (ci := 11) K (metX11_ofNote K.hG this p1 p2 x4_23 _) mtX11_ofNote mvX11_ofNote q1813 rfl rfl rfl (Nat.le_of_ble_eq_true rfl) (by decide) ⟨Nat.zero_le _, Nat.zero_le _⟩ dX11_isTwice_38) (fun v38 => ?_)
        refine jr_aload_n K dX11_isTwice_41 rfl ?_
        refine jr_iload_n K dX11_isTwice_42 rfl ?_
        refine jr_iload_n K dX11_isTwice_43 rfl ?_
        refine jr_iconst K dX11_isTwice_44 (v := (nI 1)) (by decide) ?_
        refine jr_isub K dX11_isTwice_45 ?_
        refine jr_iload K dX11_isTwice_46 rfl ?_
        refine jr_calli0 (jrun_V (As := [.int p1, .int (p2 - (nI 1)), .int x4_23]) (st := [.int v38]) (ci := 11) K (metX11_ofNote K.hG this p1 (p2 - (nI 1)) x4_23 _) mtX11_ofNote mvX11_ofNote q1813 rfl rfl rfl (Nat.le_of_ble_eq_true rfl) (by decide) ⟨Nat.zero_le _, Nat.zero_le _⟩ dX11_isTwice_48) (fun v48 => ?_)
        refine jr_join (fun (k59 : Int32 → JP) => ∀ (s0_59 : Int32), JR p l e R s m args below meth c Q D S0 5 bc bs (k59 s0_59) 59 [some (.ref this), some (.int p1), some (.int p2), none, some (.int x4_23)] [.int s0_59]) ?_ (fun k59 hk59 => ?_)
        · intro s0_59
          refine jr_istore_n K (L' := [some (.ref this), some (.int p1), some (.int p2), some (.int s0_59), some (.int x4_23)]) dX11_isTwice_59 (by decide) rfl rfl ?_
          refine jr_iinc K (v := (x4_23 + (nI 1))) (L' := [some (.ref this), some (.int p1), some (.int p2), some (.int s0_59), some (.int (x4_23 + (nI 1)))]) dX11_isTwice_60 rfl rfl (by decide) rfl rfl ?_
          refine jr_goto K (tgt := 23) dX11_isTwice_63 (by decide) ?_
          exact jr_weak (ih23 s0_59 (x4_23 + (nI 1))) ⟨rfl, rfl, rfl, rfl, rfl, trivial⟩
        refine jr_icmp_ne K (tgt := 58) dX11_isTwice_51 (by decide) ?_ ?_
        · refine jr_iconst K dX11_isTwice_58 (v := (nI 0)) (by decide) ?_
          exact jr_weak (hk59 (nI 0)) ⟨rfl, rfl, rfl, rfl, trivial⟩
        · refine jr_iconst K dX11_isTwice_54 (v := (nI 1)) (by decide) ?_
          refine jr_goto K (tgt := 59) dX11_isTwice_55 (by decide) ?_
          exact jr_weak (hk59 (nI 1)) ⟨rfl, rfl, rfl, rfl, trivial⟩
theorem wX11_isTwice (K : JK p l R s m args meth c D S0 A0 5 cX11_isTwice "MoveNotesModel" 14) (bc bs : Nat) (this : Nat) (p1 : Int32) (p2 : Int32) (Qj : Int32 → JP) (hret : jRetZ p l e R s m args below meth c Q D S0 5 cX11_isTwice Qj) : JR p l e R s m args below meth c Q D S0 5 bc bs (JX11_isTwice this p1 p2 Qj) 0 [some (.ref this), some (.int p1), some (.int p2), none, none] [] := by
  unfold JX11_isTwice
  refine jr_iload_n K dX11_isTwice_0 rfl ?_
  refine jr_join (fun (k19 : Int32 → JP) => ∀ (s0_19 : Int32), JR p l e R s m args below meth c Q D S0 5 bc bs (k19 s0_19) 19 [some (.ref this), some (.int p1), some (.int p2), none, none] [.int s0_19]) ?_ (fun k19 hk19 => ?_)
  · intro s0_19
    refine jr_istore_n K (L' := [some (.ref this), some (.int p1), some (.int p2), some (.int s0_19), none]) dX11_isTwice_19 (by decide) rfl rfl ?_
    refine jr_iconst K dX11_isTwice_20 (v := (nI 0)) (by decide) ?_
    refine jr_istore K (L' := [some (.ref this), some (.int p1), some (.int p2), some (.int s0_19), some (.int (nI 0))]) dX11_isTwice_21 (by decide) rfl rfl ?_
    refine jr_ex (fun n23 => ?_)
    refine jr_weak (wX11_isTwice_23 K bc bs this p1 p2 Qj hret n23 s0_19 (nI 0)) ⟨rfl, rfl, rfl, rfl, rfl, trivial⟩
  refine jr_join (fun (k18 : JP) => JR p l e R s m args below meth c Q D S0 5 bc bs k18 18 [some (.ref this), some (.int p1), some (.int p2), none, none] []) ?_ (fun k18 hk18 => ?_)
  · refine jr_iconst K dX11_isTwice_18 (v := (nI 0)) (by decide) ?_
    exact jr_weak (hk19 (nI 0)) ⟨rfl, rfl, rfl, trivial⟩
  refine jr_if_le K (tgt := 18) dX11_isTwice_1 (by decide) ?_ ?_
  · exact jr_weak (hk18) ⟨rfl, rfl, rfl, trivial⟩
  · refine jr_aload_n K dX11_isTwice_4 rfl ?_
    refine jr_getA K gf_X11_50 dX11_isTwice_5 (fun v5 => ?_)
    refine jr_bipush K dX11_isTwice_8 (v := (nI 7)) (by decide) ?_
    refine jr_iald K dX11_isTwice_10 (fun v10 => ?_)
    refine jr_if_le K (tgt := 18) dX11_isTwice_11 (by decide) ?_ ?_
    · exact jr_weak (hk18) ⟨rfl, rfl, rfl, trivial⟩
    · refine jr_iconst K dX11_isTwice_14 (v := (nI 1)) (by decide) ?_
      refine jr_goto K (tgt := 19) dX11_isTwice_15 (by decide) ?_
      exact jr_weak (hk19 (nI 1)) ⟨rfl, rfl, rfl, trivial⟩
theorem metX11_isTwice (hG : jG l D S0 A0) (this : Nat) (p1 : Int32) (p2 : Int32) (Qj : Int32 → JP) : Met l yX11_isTwice (ws_ yX11_isTwice cX11_isTwice 5 (some .boolean)) (jrm 14 0 0) (va_Pc [.ref this, .int p1, .int p2] (jB D S0 (JX11_isTwice this p1 p2 Qj))) (va_Qi Qj (fun σ t => jRep D S0.heap.size σ t.heap) (jA S0)) 0 0 (jA S0) :=
  jr_start hG (by decide) (Nat.le_of_ble_eq_true rfl) rfl fun p e s m below meth c K hr hn => wX11_isTwice K _ _ this p1 p2 Qj (fun _ _ _ _ _ d => jr_zret K hr d)
theorem wX11_ofTwice (K : JK p l R s m args meth c D S0 A0 4 cX11_ofTwice "MoveNotesModel" 15) (bc bs : Nat) (this : Nat) (p1 : Int32) (p2 : Int32) (p3 : Int32) (Qj : Int32 → JP) (hret : jRetI p l e R s m args below meth c Q D S0 4 cX11_ofTwice Qj) : JR p l e R s m args below meth c Q D S0 4 bc bs (JX11_ofTwice this p1 p2 p3 Qj) 0 [some (.ref this), some (.int p1), some (.int p2), some (.int p3)] [] := by
  unfold JX11_ofTwice
  refine jr_iload_n K dX11_ofTwice_0 rfl ?_
  refine jr_join (fun (k15 : JP) => JR p l e R s m args below meth c Q D S0 4 bc bs k15 15 [none, none, none, none] []) ?_ (fun k15 hk15 => ?_)
  · refine jr_sipush K dX11_ofTwice_15 (v := (nI 1000)) (by decide) ?_
    refine jr_goto K (tgt := 42) dX11_ofTwice_18 (by decide) ?_
    exact hret _ _ _ _ _ dX11_ofTwice_42
  refine jr_if_eq K (tgt := 15) dX11_ofTwice_1 (by decide) ?_ ?_
  · exact jr_weak (hk15) trivial
  · refine jr_aload_n K dX11_ofTwice_4 rfl ?_
    refine jr_iload_n K dX11_ofTwice_5 rfl ?_
    refine jr_iload_n K dX11_ofTwice_6 rfl ?_
    refine jr_iconst K dX11_ofTwice_7 (v := (nI 1)) (by decide) ?_
    refine jr_isub K dX11_ofTwice_8 ?_
    refine jr_calli0 (jrun_V (As := [.int p3, .int (p2 - (nI 1))]) (st := []) (ci := 11) K (metX11_isTwice K.hG this p3 (p2 - (nI 1)) _) mtX11_isTwice mvX11_isTwice q1933 rfl rfl rfl (Nat.le_of_ble_eq_true rfl) (by decide) ⟨Nat.zero_le _, Nat.zero_le _⟩ dX11_ofTwice_9) (fun v9 => ?_)
    refine jr_if_ne K (tgt := 21) dX11_ofTwice_12 (by decide) ?_ ?_
    · refine jr_aload_n K dX11_ofTwice_21 rfl ?_
      refine jr_getA K gf_X11_62 dX11_ofTwice_22 (fun v22 => ?_)
      refine jr_iload_n K dX11_ofTwice_25 rfl ?_
      refine jr_iload_n K dX11_ofTwice_26 rfl ?_
      refine jr_iload_n K dX11_ofTwice_27 rfl ?_
      refine jr_iconst K dX11_ofTwice_28 (v := (nI 1)) (by decide) ?_
      refine jr_isub K dX11_ofTwice_29 ?_
      refine jr_calli0 (jrun_S (As := [.int p3, .int p1, .int (p2 - (nI 1))]) (st := [.ref v22]) K (metX11_sumAt K.hG p3 p1 (p2 - (nI 1)) _) mtX11_sumAt q1920 q1919 rfl rfl (Nat.le_of_ble_eq_true rfl) (by decide) ⟨Nat.zero_le _, Nat.zero_le _⟩ dX11_ofTwice_30) (fun v30 => ?_)
      refine jr_iald K dX11_ofTwice_33 (fun v33 => ?_)
      refine jr_aload_n K dX11_ofTwice_34 rfl ?_
      refine jr_getA K gf_X11_50 dX11_ofTwice_35 (fun v35 => ?_)
      refine jr_bipush K dX11_ofTwice_38 (v := (nI 7)) (by decide) ?_
      refine jr_iald K dX11_ofTwice_40 (fun v40 => ?_)
      refine jr_iadd K dX11_ofTwice_41 ?_
      exact hret _ _ _ _ _ dX11_ofTwice_42
    · exact jr_weak (hk15) trivial
theorem metX11_ofTwice (hG : jG l D S0 A0) (this : Nat) (p1 : Int32) (p2 : Int32) (p3 : Int32) (Qj : Int32 → JP) : Met l yX11_ofTwice (ws_ yX11_ofTwice cX11_ofTwice 4 (some .int)) (jrm 15 0 0) (va_Pc [.ref this, .int p1, .int p2, .int p3] (jB D S0 (JX11_ofTwice this p1 p2 p3 Qj))) (va_Qi Qj (fun σ t => jRep D S0.heap.size σ t.heap) (jA S0)) 0 0 (jA S0) :=
  jr_start hG (by decide) (Nat.le_of_ble_eq_true rfl) rfl fun p e s m below meth c K hr hn => wX11_ofTwice K _ _ this p1 p2 p3 Qj (fun _ _ _ _ _ d => jr_iret K hr rfl d)
theorem wX11_sums_2 (K : JK p l R s m args meth c D S0 A0 5 cX11_sums "MoveNotesModel" 16) (bc bs : Nat) (this : Nat) (p1 : Int32) (p2 : Int32) (Qj : JP) (hret : jRetV p l e R s m args below meth c Q D S0 5 cX11_sums Qj) : ∀ (n : Nat) (x3_2 : Int32), JR p l e R s m args below meth c Q D S0 5 bc bs (jit (FX11_sums_2 this p1 p2 Qj) (fun _ => jbot) n x3_2) 2 [some (.ref this), some (.int p1), some (.int p2), some (.int x3_2), none] [] := by
  intro n
  induction n with
  | zero =>
    intro x3_2
    exact JR.bot
  | succ n ih2 =>
    intro x3_2
    show JR p l e R s m args below meth c Q D S0 5 bc bs (FX11_sums_2 this p1 p2 Qj (jit (FX11_sums_2 this p1 p2 Qj) (fun _ => jbot) n) x3_2) 2 [some (.ref this), some (.int p1), some (.int p2), some (.int x3_2), none] []
    generalize jit (FX11_sums_2 this p1 p2 Qj) (fun _ => jbot) n = rec2 at ih2 ⊢
    unfold FX11_sums_2
    refine jr_iload_n K dX11_sums_2 rfl ?_
    refine jr_aload_n K dX11_sums_3 rfl ?_
    refine jr_iload_n K dX11_sums_4 rfl ?_
    refine jr_calli0 (jrun_V (As := [.int p1]) (st := [.int x3_2]) (ci := 11) K (metX11_notes K.hG this p1 _) mtX11_notes mvX11_notes q1789 rfl rfl rfl (Nat.le_of_ble_eq_true rfl) (by decide) ⟨Nat.zero_le _, Nat.zero_le _⟩ dX11_sums_5) (fun v5 => ?_)
    refine jr_icmp_gt K (tgt := 75) dX11_sums_8 (by decide) ?_ ?_
    · exact hret _ _ _ _ dX11_sums_75
    · refine jr_iload_n K dX11_sums_11 rfl ?_
      refine jr_iload_n K dX11_sums_12 rfl ?_
      refine jr_iadd K dX11_sums_13 ?_
      refine jr_join (fun (k48 : Int32 → JP) => ∀ (s0_48 : Int32), JR p l e R s m args below meth c Q D S0 5 bc bs (k48 s0_48) 48 [some (.ref this), some (.int p1), some (.int p2), some (.int x3_2), none] [.int s0_48]) ?_ (fun k48 hk48 => ?_)
      · intro s0_48
        refine jr_istore K (L' := [some (.ref this), some (.int p1), some (.int p2), some (.int x3_2), some (.int s0_48)]) dX11_sums_48 (by decide) rfl rfl ?_
        refine jr_aload_n K dX11_sums_50 rfl ?_
        refine jr_getA K gf_X11_62 dX11_sums_51 (fun v51 => ?_)
        refine jr_iload_n K dX11_sums_54 rfl ?_
        refine jr_iload_n K dX11_sums_55 rfl ?_
        refine jr_iload_n K dX11_sums_56 rfl ?_
        refine jr_calli0 (jrun_S (As := [.int p1, .int p2, .int x3_2]) (st := [.ref v51]) K (metX11_sumAt K.hG p1 p2 x3_2 _) mtX11_sumAt q1920 q1919 rfl rfl (Nat.le_of_ble_eq_true rfl) (by decide) ⟨Nat.zero_le _, Nat.zero_le _⟩ dX11_sums_57) (fun v57 => ?_)
        refine jr_sipush K dX11_sums_60 (v := (nI 1000)) (by decide) ?_
        refine jr_iload K dX11_sums_63 rfl ?_
        refine jr_min K q1937 (by decide) (Nat.le_of_ble_eq_true rfl) dX11_sums_65 ?_
        refine jr_iast K dX11_sums_68 ?_
        refine jr_iinc K (v := (x3_2 + (nI 1))) (L' := [some (.ref this), some (.int p1), some (.int p2), some (.int (x3_2 + (nI 1))), some (.int s0_48)]) dX11_sums_69 rfl rfl (by decide) rfl rfl ?_
        refine jr_goto K (tgt := 2) dX11_sums_72 (by decide) ?_
        exact jr_weak (ih2 (x3_2 + (nI 1))) ⟨rfl, rfl, rfl, rfl, trivial⟩
      refine jr_if_ne K (tgt := 21) dX11_sums_14 (by decide) ?_ ?_
      · refine jr_aload_n K dX11_sums_21 rfl ?_
        refine jr_iload_n K dX11_sums_22 rfl ?_
        refine jr_iload_n K dX11_sums_23 rfl ?_
        refine jr_iload_n K dX11_sums_24 rfl ?_
        refine jr_calli0 (jrun_V (As := [.int p2, .int x3_2, .int p1]) (st := []) (ci := 11) K (metX11_ofMove K.hG this p2 x3_2 p1 _) mtX11_ofMove mvX11_ofMove q1915 rfl rfl rfl (Nat.le_of_ble_eq_true rfl) (by decide) ⟨Nat.zero_le _, Nat.zero_le _⟩ dX11_sums_25) (fun v25 => ?_)
        refine jr_aload_n K dX11_sums_28 rfl ?_
        refine jr_iload_n K dX11_sums_29 rfl ?_
        refine jr_iload_n K dX11_sums_30 rfl ?_
        refine jr_iload_n K dX11_sums_31 rfl ?_
        refine jr_calli0 (jrun_V (As := [.int p2, .int x3_2, .int p1]) (st := [.int v25]) (ci := 11) K (metX11_ofLost K.hG this p2 x3_2 p1 _) mtX11_ofLost mvX11_ofLost q1925 rfl rfl rfl (Nat.le_of_ble_eq_true rfl) (by decide) ⟨Nat.zero_le _, Nat.zero_le _⟩ dX11_sums_32) (fun v32 => ?_)
        refine jr_aload_n K dX11_sums_35 rfl ?_
        refine jr_iload_n K dX11_sums_36 rfl ?_
        refine jr_iload_n K dX11_sums_37 rfl ?_
        refine jr_iload_n K dX11_sums_38 rfl ?_
        refine jr_calli0 (jrun_V (As := [.int p2, .int x3_2, .int p1]) (st := [.int v32, .int v25]) (ci := 11) K (metX11_ofTwice K.hG this p2 x3_2 p1 _) mtX11_ofTwice mvX11_ofTwice q1929 rfl rfl rfl (Nat.le_of_ble_eq_true rfl) (by decide) ⟨Nat.zero_le _, Nat.zero_le _⟩ dX11_sums_39) (fun v39 => ?_)
        refine jr_min K q1937 (by decide) (Nat.le_of_ble_eq_true rfl) dX11_sums_42 ?_
        refine jr_min K q1937 (by decide) (Nat.le_of_ble_eq_true rfl) dX11_sums_45 ?_
        exact jr_weak (hk48 (jmin v25 (jmin v32 v39))) ⟨rfl, rfl, rfl, rfl, trivial⟩
      · refine jr_iconst K dX11_sums_17 (v := (nI 0)) (by decide) ?_
        refine jr_goto K (tgt := 48) dX11_sums_18 (by decide) ?_
        exact jr_weak (hk48 (nI 0)) ⟨rfl, rfl, rfl, rfl, trivial⟩
theorem wX11_sums (K : JK p l R s m args meth c D S0 A0 5 cX11_sums "MoveNotesModel" 16) (bc bs : Nat) (this : Nat) (p1 : Int32) (p2 : Int32) (Qj : JP) (hret : jRetV p l e R s m args below meth c Q D S0 5 cX11_sums Qj) : JR p l e R s m args below meth c Q D S0 5 bc bs (JX11_sums this p1 p2 Qj) 0 [some (.ref this), some (.int p1), some (.int p2), none, none] [] := by
  unfold JX11_sums
  refine jr_iconst K dX11_sums_0 (v := (nI 0)) (by decide) ?_
  refine jr_istore_n K (L' := [some (.ref this), some (.int p1), some (.int p2), some (.int (nI 0)), none]) dX11_sums_1 (by decide) rfl rfl ?_
  refine jr_ex (fun n2 => ?_)
  refine jr_weak (wX11_sums_2 K bc bs this p1 p2 Qj hret n2 (nI 0)) ⟨rfl, rfl, rfl, rfl, trivial⟩
theorem metX11_sums (hG : jG l D S0 A0) (this : Nat) (p1 : Int32) (p2 : Int32) (Qj : JP) : Met l yX11_sums (ws_ yX11_sums cX11_sums 5 none) (jrm 16 0 0) (va_Pc [.ref this, .int p1, .int p2] (jB D S0 (JX11_sums this p1 p2 Qj))) (va_Qv Qj (fun σ t => jRep D S0.heap.size σ t.heap) (jA S0)) 0 0 (jA S0) :=
  jr_start hG (by decide) (Nat.le_of_ble_eq_true rfl) rfl fun p e s m below meth c K hr hn => wX11_sums K _ _ this p1 p2 Qj (fun _ _ _ _ d => jr_vret K hr d)
theorem wX11_prices_46 (K : JK p l R s m args meth c D S0 A0 5 cX11_prices "MoveNotesModel" 17) (bc bs : Nat) (this : Nat) (p1 : Int32) (x2_12 : Int32) (k79 : Int32 → JP) (hk79 : ∀ (y3_79 : Int32), JR p l e R s m args below meth c Q D S0 5 bc bs (k79 y3_79) 79 [some (.ref this), some (.int p1), some (.int x2_12), some (.int y3_79), none] []) : ∀ (n : Nat) (x3_46 : Int32) (x4_46 : Int32), JR p l e R s m args below meth c Q D S0 5 bc bs (jit (FX11_prices_46 this p1 x2_12 k79) (fun _ _ => jbot) n x3_46 x4_46) 46 [some (.ref this), some (.int p1), some (.int x2_12), some (.int x3_46), some (.int x4_46)] [] := by
  intro n
  induction n with
  | zero =>
    intro x3_46 x4_46
    exact JR.bot
  | succ n ih46 =>
    intro x3_46 x4_46
    show JR p l e R s m args below meth c Q D S0 5 bc bs (FX11_prices_46 this p1 x2_12 k79 (jit (FX11_prices_46 this p1 x2_12 k79) (fun _ _ => jbot) n) x3_46 x4_46) 46 [some (.ref this), some (.int p1), some (.int x2_12), some (.int x3_46), some (.int x4_46)] []
    generalize jit (FX11_prices_46 this p1 x2_12 k79) (fun _ _ => jbot) n = rec46 at ih46 ⊢
    unfold FX11_prices_46
    refine jr_iload K dX11_prices_46 rfl ?_
    refine jr_aload_n K dX11_prices_48 rfl ?_
    refine jr_iload_n K dX11_prices_49 rfl ?_
    refine jr_calli0 (jrun_V (As := [.int x2_12]) (st := [.int x4_46]) (ci := 11) K (metX11_notes K.hG this x2_12 _) mtX11_notes mvX11_notes q1789 rfl rfl rfl (Nat.le_of_ble_eq_true rfl) (by decide) ⟨Nat.zero_le _, Nat.zero_le _⟩ dX11_prices_50) (fun v50 => ?_)
    refine jr_icmp_gt K (tgt := 79) dX11_prices_53 (by decide) ?_ ?_
    · exact jr_weak (hk79 x3_46) ⟨rfl, rfl, rfl, rfl, trivial⟩
    · refine jr_iload_n K dX11_prices_56 rfl ?_
      refine jr_aload_n K dX11_prices_57 rfl ?_
      refine jr_getA K gf_X11_62 dX11_prices_58 (fun v58 => ?_)
      refine jr_iload_n K dX11_prices_61 rfl ?_
      refine jr_iload_n K dX11_prices_62 rfl ?_
      refine jr_iload K dX11_prices_63 rfl ?_
      refine jr_calli0 (jrun_S (As := [.int x2_12, .int p1, .int x4_46]) (st := [.ref v58, .int x3_46]) K (metX11_sumAt K.hG x2_12 p1 x4_46 _) mtX11_sumAt q1920 q1919 rfl rfl (Nat.le_of_ble_eq_true rfl) (by decide) ⟨Nat.zero_le _, Nat.zero_le _⟩ dX11_prices_65) (fun v65 => ?_)
      refine jr_iald K dX11_prices_68 (fun v68 => ?_)
      refine jr_min K q1937 (by decide) (Nat.le_of_ble_eq_true rfl) dX11_prices_69 ?_
      refine jr_istore_n K (L' := [some (.ref this), some (.int p1), some (.int x2_12), some (.int (jmin x3_46 v68)), some (.int x4_46)]) dX11_prices_72 (by decide) rfl rfl ?_
      refine jr_iinc K (v := (x4_46 + (nI 1))) (L' := [some (.ref this), some (.int p1), some (.int x2_12), some (.int (jmin x3_46 v68)), some (.int (x4_46 + (nI 1)))]) dX11_prices_73 rfl rfl (by decide) rfl rfl ?_
      refine jr_goto K (tgt := 46) dX11_prices_76 (by decide) ?_
      exact jr_weak (ih46 (jmin x3_46 v68) (x4_46 + (nI 1))) ⟨rfl, rfl, rfl, rfl, rfl, trivial⟩
theorem wX11_prices_12 (K : JK p l R s m args meth c D S0 A0 5 cX11_prices "MoveNotesModel" 17) (bc bs : Nat) (this : Nat) (p1 : Int32) (Qj : JP) (hret : jRetV p l e R s m args below meth c Q D S0 5 cX11_prices Qj) : ∀ (n : Nat) (x2_12 : Int32), JR p l e R s m args below meth c Q D S0 5 bc bs (jit (FX11_prices_12 this p1 Qj) (fun _ => jbot) n x2_12) 12 [some (.ref this), some (.int p1), some (.int x2_12), none, none] [] := by
  intro n
  induction n with
  | zero =>
    intro x2_12
    exact JR.bot
  | succ n ih12 =>
    intro x2_12
    show JR p l e R s m args below meth c Q D S0 5 bc bs (FX11_prices_12 this p1 Qj (jit (FX11_prices_12 this p1 Qj) (fun _ => jbot) n) x2_12) 12 [some (.ref this), some (.int p1), some (.int x2_12), none, none] []
    generalize jit (FX11_prices_12 this p1 Qj) (fun _ => jbot) n = rec12 at ih12 ⊢
    unfold FX11_prices_12
    refine jr_iload_n K dX11_prices_12 rfl ?_
    refine jr_aload_n K dX11_prices_13 rfl ?_
    refine jr_getA K gf_X11_13 dX11_prices_14 (fun v14 => ?_)
    refine jr_iconst K dX11_prices_17 (v := (nI 1)) (by decide) ?_
    refine jr_iald K dX11_prices_18 (fun v18 => ?_)
    refine jr_icmp_ge K (tgt := 119) dX11_prices_19 (by decide) ?_ ?_
    · exact hret _ _ _ _ dX11_prices_119
    · refine jr_aload_n K dX11_prices_22 rfl ?_
      refine jr_iload_n K dX11_prices_23 rfl ?_
      refine jr_calli0 (jrun_V (As := [.int x2_12]) (st := []) (ci := 11) K (metX11_isAsked K.hG this x2_12 _) mtX11_isAsked mvX11_isAsked q1907 rfl rfl rfl (Nat.le_of_ble_eq_true rfl) (by decide) ⟨Nat.zero_le _, Nat.zero_le _⟩ dX11_prices_24) (fun v24 => ?_)
      refine jr_join (fun (k113 : JP) => JR p l e R s m args below meth c Q D S0 5 bc bs k113 113 [some (.ref this), some (.int p1), some (.int x2_12), none, none] []) ?_ (fun k113 hk113 => ?_)
      · refine jr_iinc K (v := (x2_12 + (nI 1))) (L' := [some (.ref this), some (.int p1), some (.int (x2_12 + (nI 1))), none, none]) dX11_prices_113 rfl rfl (by decide) rfl rfl ?_
        refine jr_goto K (tgt := 12) dX11_prices_116 (by decide) ?_
        exact jr_weak (ih12 (x2_12 + (nI 1))) ⟨rfl, rfl, rfl, trivial⟩
      refine jr_if_ne K (tgt := 33) dX11_prices_27 (by decide) ?_ ?_
      · refine jr_aload_n K dX11_prices_33 rfl ?_
        refine jr_iload_n K dX11_prices_34 rfl ?_
        refine jr_iload_n K dX11_prices_35 rfl ?_
        refine jr_callv0 (jrun_V (As := [.int x2_12, .int p1]) (st := []) (ci := 11) K (metX11_sums K.hG this x2_12 p1 _) mtX11_sums mvX11_sums q1911 rfl rfl rfl (Nat.le_of_ble_eq_true rfl) (by decide) ⟨Nat.zero_le _, Nat.zero_le _⟩ dX11_prices_36) ?_
        refine jr_sipush K dX11_prices_39 (v := (nI 1000)) (by decide) ?_
        refine jr_istore_n K (L' := [some (.ref this), some (.int p1), some (.int x2_12), some (.int (nI 1000)), none]) dX11_prices_42 (by decide) rfl rfl ?_
        refine jr_iconst K dX11_prices_43 (v := (nI 0)) (by decide) ?_
        refine jr_istore K (L' := [some (.ref this), some (.int p1), some (.int x2_12), some (.int (nI 1000)), some (.int (nI 0))]) dX11_prices_44 (by decide) rfl rfl ?_
        refine jr_ex (fun n46 => ?_)
        refine jr_weak (wX11_prices_46 K bc bs this p1 x2_12 _ ?_ n46 (nI 1000) (nI 0)) ⟨rfl, rfl, rfl, rfl, rfl, trivial⟩
        · intro y3_79
          refine jr_aload_n K dX11_prices_79 rfl ?_
          refine jr_dup K dX11_prices_80 rfl ?_
          refine jr_getI K gf_X11_347 dX11_prices_81 (fun v81 => ?_)
          refine jr_iload_n K dX11_prices_84 rfl ?_
          refine jr_iadd K dX11_prices_85 ?_
          refine jr_put K pf_X11_347 dX11_prices_86 rfl rfl ?_
          refine jr_aload_n K dX11_prices_89 rfl ?_
          refine jr_dup K dX11_prices_90 rfl ?_
          refine jr_getI K gf_X11_350 dX11_prices_91 (fun v91 => ?_)
          refine jr_aload_n K dX11_prices_94 rfl ?_
          refine jr_getA K gf_X11_62 dX11_prices_95 (fun v95 => ?_)
          refine jr_iload_n K dX11_prices_98 rfl ?_
          refine jr_iload_n K dX11_prices_99 rfl ?_
          refine jr_aload_n K dX11_prices_100 rfl ?_
          refine jr_iload_n K dX11_prices_101 rfl ?_
          refine jr_calli0 (jrun_V (As := [.int x2_12]) (st := [.int p1, .int x2_12, .ref v95, .int v91, .ref this]) (ci := 11) K (metX11_notes K.hG this x2_12 _) mtX11_notes mvX11_notes q1789 rfl rfl rfl (Nat.le_of_ble_eq_true rfl) (by decide) ⟨Nat.zero_le _, Nat.zero_le _⟩ dX11_prices_102) (fun v102 => ?_)
          refine jr_calli0 (jrun_S (As := [.int x2_12, .int p1, .int v102]) (st := [.ref v95, .int v91, .ref this]) K (metX11_sumAt K.hG x2_12 p1 v102 _) mtX11_sumAt q1920 q1919 rfl rfl (Nat.le_of_ble_eq_true rfl) (by decide) ⟨Nat.zero_le _, Nat.zero_le _⟩ dX11_prices_105) (fun v105 => ?_)
          refine jr_iald K dX11_prices_108 (fun v108 => ?_)
          refine jr_iadd K dX11_prices_109 ?_
          refine jr_put K pf_X11_350 dX11_prices_110 rfl rfl ?_
          exact jr_weak (hk113) ⟨rfl, rfl, rfl, trivial⟩
      · refine jr_goto K (tgt := 113) dX11_prices_30 (by decide) ?_
        exact jr_weak (hk113) ⟨rfl, rfl, rfl, trivial⟩
theorem wX11_prices (K : JK p l R s m args meth c D S0 A0 5 cX11_prices "MoveNotesModel" 17) (bc bs : Nat) (this : Nat) (p1 : Int32) (Qj : JP) (hret : jRetV p l e R s m args below meth c Q D S0 5 cX11_prices Qj) : JR p l e R s m args below meth c Q D S0 5 bc bs (JX11_prices this p1 Qj) 0 [some (.ref this), some (.int p1), none, none, none] [] := by
  unfold JX11_prices
  refine jr_aload_n K dX11_prices_0 rfl ?_
  refine jr_iconst K dX11_prices_1 (v := (nI 0)) (by decide) ?_
  refine jr_put K pf_X11_347 dX11_prices_2 rfl rfl ?_
  refine jr_aload_n K dX11_prices_5 rfl ?_
  refine jr_iconst K dX11_prices_6 (v := (nI 0)) (by decide) ?_
  refine jr_put K pf_X11_350 dX11_prices_7 rfl rfl ?_
  refine jr_iconst K dX11_prices_10 (v := (nI 0)) (by decide) ?_
  refine jr_istore_n K (L' := [some (.ref this), some (.int p1), some (.int (nI 0)), none, none]) dX11_prices_11 (by decide) rfl rfl ?_
  refine jr_ex (fun n12 => ?_)
  refine jr_weak (wX11_prices_12 K bc bs this p1 Qj hret n12 (nI 0)) ⟨rfl, rfl, rfl, trivial⟩
theorem metX11_prices (hG : jG l D S0 A0) (this : Nat) (p1 : Int32) (Qj : JP) : Met l yX11_prices (ws_ yX11_prices cX11_prices 5 none) (jrm 17 0 0) (va_Pc [.ref this, .int p1] (jB D S0 (JX11_prices this p1 Qj))) (va_Qv Qj (fun σ t => jRep D S0.heap.size σ t.heap) (jA S0)) 0 0 (jA S0) :=
  jr_start hG (by decide) (Nat.le_of_ble_eq_true rfl) rfl fun p e s m below meth c K hr hn => wX11_prices K _ _ this p1 Qj (fun _ _ _ _ d => jr_vret K hr d)
theorem wX11_valueOf (K : JK p l R s m args meth c D S0 A0 2 cX11_valueOf "MoveNotesModel" 12) (bc bs : Nat) (this : Nat) (p1 : Int32) (Qj : Int32 → JP) (hret : jRetI p l e R s m args below meth c Q D S0 2 cX11_valueOf Qj) : JR p l e R s m args below meth c Q D S0 2 bc bs (JX11_valueOf this p1 Qj) 0 [some (.ref this), some (.int p1)] [] := by
  unfold JX11_valueOf
  refine jr_aload_n K dX11_valueOf_0 rfl ?_
  refine jr_getA K gf_X11_13 dX11_valueOf_1 (fun v1 => ?_)
  refine jr_bipush K dX11_valueOf_4 (v := (nI 49)) (by decide) ?_
  refine jr_bipush K dX11_valueOf_6 (v := (nI 14)) (by decide) ?_
  refine jr_iload_n K dX11_valueOf_8 rfl ?_
  refine jr_imul K dX11_valueOf_9 ?_
  refine jr_iadd K dX11_valueOf_10 ?_
  refine jr_iald K dX11_valueOf_11 (fun v11 => ?_)
  exact hret _ _ _ _ _ dX11_valueOf_12
theorem metX11_valueOf (hG : jG l D S0 A0) (this : Nat) (p1 : Int32) (Qj : Int32 → JP) : Met l yX11_valueOf (ws_ yX11_valueOf cX11_valueOf 2 (some .int)) (jrm 12 0 0) (va_Pc [.ref this, .int p1] (jB D S0 (JX11_valueOf this p1 Qj))) (va_Qi Qj (fun σ t => jRep D S0.heap.size σ t.heap) (jA S0)) 0 0 (jA S0) :=
  jr_start hG (by decide) (Nat.le_of_ble_eq_true rfl) rfl fun p e s m below meth c K hr hn => wX11_valueOf K _ _ this p1 Qj (fun _ _ _ _ _ d => jr_iret K hr rfl d)
theorem wX11_holdsLine_11 (K : JK p l R s m args meth c D S0 A0 8 cX11_holdsLine "MoveNotesModel" 12) (bc bs : Nat) (this : Nat) (p1 : Int32) (k258 : Int32 → JP) (hk258 : ∀ (y2_258 : Int32), JR p l e R s m args below meth c Q D S0 8 bc bs (k258 y2_258) 258 [some (.ref this), none, some (.int y2_258), none, none, none, none, none] []) : ∀ (n : Nat) (x2_11 : Int32) (x3_11 : Int32), JR p l e R s m args below meth c Q D S0 8 bc bs (jit (FX11_holdsLine_11 this p1 k258) (fun _ _ => jbot) n x2_11 x3_11) 11 [some (.ref this), some (.int p1), some (.int x2_11), some (.int x3_11), none, none, none, none] [] := by
  intro n
  induction n with
  | zero =>
    intro x2_11 x3_11
    exact JR.bot
  | succ n ih11 =>
    intro x2_11 x3_11
    show JR p l e R s m args below meth c Q D S0 8 bc bs (FX11_holdsLine_11 this p1 k258 (jit (FX11_holdsLine_11 this p1 k258) (fun _ _ => jbot) n) x2_11 x3_11) 11 [some (.ref this), some (.int p1), some (.int x2_11), some (.int x3_11), none, none, none, none] []
    generalize jit (FX11_holdsLine_11 this p1 k258) (fun _ _ => jbot) n = rec11 at ih11 ⊢
    unfold FX11_holdsLine_11
    refine jr_iload_n K dX11_holdsLine_11 rfl ?_
    refine jr_aload_n K dX11_holdsLine_12 rfl ?_
    refine jr_getA K gf_X11_13 dX11_holdsLine_13 (fun v13 => ?_)
    refine jr_iload_n K dX11_holdsLine_16 rfl ?_
    refine jr_iconst K dX11_holdsLine_17 (v := (nI 3)) (by decide) ?_
    refine jr_iadd K dX11_holdsLine_18 ?_
    refine jr_iald K dX11_holdsLine_19 (fun v19 => ?_)
    refine jr_icmp_ge K (tgt := 258) dX11_holdsLine_20 (by decide) ?_ ?_
    · exact jr_weak (hk258 x2_11) ⟨rfl, rfl, trivial⟩
    · refine jr_aload_n K dX11_holdsLine_23 rfl ?_
      refine jr_getA K gf_X11_13 dX11_holdsLine_24 (fun v24 => ?_)
      refine jr_sipush K dX11_holdsLine_27 (v := (nI 484)) (by decide) ?_
      refine jr_iconst K dX11_holdsLine_30 (v := (nI 2)) (by decide) ?_
      refine jr_iload_n K dX11_holdsLine_31 rfl ?_
      refine jr_imul K dX11_holdsLine_32 ?_
      refine jr_iadd K dX11_holdsLine_33 ?_
      refine jr_iald K dX11_holdsLine_34 (fun v34 => ?_)
      refine jr_istore K (L' := [some (.ref this), some (.int p1), some (.int x2_11), some (.int x3_11), some (.int v34), none, none, none]) dX11_holdsLine_35 (by decide) rfl rfl ?_
      refine jr_iload K dX11_holdsLine_37 rfl ?_
      refine jr_bipush K dX11_holdsLine_39 (v := (nI 6)) (by decide) ?_
      refine jr_join (fun (k252 : Int32 → JP) => ∀ (x2_252 : Int32), JR p l e R s m args below meth c Q D S0 8 bc bs (k252 x2_252) 252 [some (.ref this), some (.int p1), some (.int x2_252), some (.int x3_11), none, none, none, none] []) ?_ (fun k252 hk252 => ?_)
      · intro x2_252
        refine jr_iinc K (v := (x3_11 + (nI 1))) (L' := [some (.ref this), some (.int p1), some (.int x2_252), some (.int (x3_11 + (nI 1))), none, none, none, none]) dX11_holdsLine_252 rfl rfl (by decide) rfl rfl ?_
        refine jr_goto K (tgt := 11) dX11_holdsLine_255 (by decide) ?_
        exact jr_weak (ih11 x2_252 (x3_11 + (nI 1))) ⟨rfl, rfl, rfl, rfl, trivial⟩
      refine jr_icmp_gt K (tgt := 87) dX11_holdsLine_41 (by decide) ?_ ?_
      · refine jr_iload K dX11_holdsLine_87 rfl ?_
        refine jr_bipush K dX11_holdsLine_89 (v := (nI 10)) (by decide) ?_
        refine jr_icmp_ne K (tgt := 115) dX11_holdsLine_91 (by decide) ?_ ?_
        · refine jr_iinc K (v := (x2_11 + (-1))) (L' := [some (.ref this), some (.int p1), some (.int (x2_11 + (-1))), some (.int x3_11), some (.int v34), none, none, none]) dX11_holdsLine_115 rfl rfl (by decide) rfl rfl ?_
          refine jr_aload_n K dX11_holdsLine_118 rfl ?_
          refine jr_getA K gf_X11_36 dX11_holdsLine_119 (fun v119 => ?_)
          refine jr_iload_n K dX11_holdsLine_122 rfl ?_
          refine jr_iconst K dX11_holdsLine_123 (v := (nI 1)) (by decide) ?_
          refine jr_isub K dX11_holdsLine_124 ?_
          refine jr_iald K dX11_holdsLine_125 (fun v125 => ?_)
          refine jr_istore K (L' := [some (.ref this), some (.int p1), some (.int (x2_11 + (-1))), some (.int x3_11), some (.int v34), some (.int v125), none, none]) dX11_holdsLine_126 (by decide) rfl rfl ?_
          refine jr_aload_n K dX11_holdsLine_128 rfl ?_
          refine jr_getA K gf_X11_36 dX11_holdsLine_129 (fun v129 => ?_)
          refine jr_iload_n K dX11_holdsLine_132 rfl ?_
          refine jr_iald K dX11_holdsLine_133 (fun v133 => ?_)
          refine jr_istore K (L' := [some (.ref this), some (.int p1), some (.int (x2_11 + (-1))), some (.int x3_11), some (.int v34), some (.int v125), some (.int v133), none]) dX11_holdsLine_134 (by decide) rfl rfl ?_
          refine jr_iload K dX11_holdsLine_136 rfl ?_
          refine jr_bipush K dX11_holdsLine_138 (v := (nI 8)) (by decide) ?_
          refine jr_join (fun (k217 : Int32 → JP) => ∀ (s0_217 : Int32), JR p l e R s m args below meth c Q D S0 8 bc bs (k217 s0_217) 217 [some (.ref this), some (.int p1), some (.int (x2_11 + (-1))), some (.int x3_11), some (.int v34), some (.int v125), some (.int v133), none] [.int s0_217]) ?_ (fun k217 hk217 => ?_)
          · intro s0_217
            refine jr_istore K (L' := [some (.ref this), some (.int p1), some (.int (x2_11 + (-1))), some (.int x3_11), some (.int v34), some (.int v125), some (.int v133), some (.int s0_217)]) dX11_holdsLine_217 (by decide) rfl rfl ?_
            refine jr_aload_n K dX11_holdsLine_219 rfl ?_
            refine jr_getA K gf_X11_36 dX11_holdsLine_220 (fun v220 => ?_)
            refine jr_iload_n K dX11_holdsLine_223 rfl ?_
            refine jr_iconst K dX11_holdsLine_224 (v := (nI 1)) (by decide) ?_
            refine jr_isub K dX11_holdsLine_225 ?_
            refine jr_iload K dX11_holdsLine_226 rfl ?_
            refine jr_bipush K dX11_holdsLine_228 (v := (nI 7)) (by decide) ?_
            refine jr_join (fun (k251 : Int32 → JP) => ∀ (s2_251 : Int32), JR p l e R s m args below meth c Q D S0 8 bc bs (k251 s2_251) 251 [some (.ref this), some (.int p1), some (.int (x2_11 + (-1))), some (.int x3_11), none, none, none, none] [.int s2_251, .int ((x2_11 + (-1)) - (nI 1)), .ref v220]) ?_ (fun k251 hk251 => ?_)
            · intro s2_251
              refine jr_iast K dX11_holdsLine_251 ?_
              exact jr_weak (hk252 (x2_11 + (-1))) ⟨rfl, rfl, rfl, rfl, trivial⟩
            refine jr_icmp_ne K (tgt := 241) dX11_holdsLine_230 (by decide) ?_ ?_
            · refine jr_iload K dX11_holdsLine_241 rfl ?_
              refine jr_if_eq K (tgt := 250) dX11_holdsLine_243 (by decide) ?_ ?_
              · refine jr_iconst K dX11_holdsLine_250 (v := (nI 0)) (by decide) ?_
                exact jr_weak (hk251 (nI 0)) ⟨rfl, rfl, rfl, rfl, trivial⟩
              · refine jr_iconst K dX11_holdsLine_246 (v := (nI 1)) (by decide) ?_
                refine jr_goto K (tgt := 251) dX11_holdsLine_247 (by decide) ?_
                exact jr_weak (hk251 (nI 1)) ⟨rfl, rfl, rfl, rfl, trivial⟩
            · refine jr_iload K dX11_holdsLine_233 rfl ?_
              refine jr_iload K dX11_holdsLine_235 rfl ?_
              refine jr_iadd K dX11_holdsLine_237 ?_
              refine jr_goto K (tgt := 251) dX11_holdsLine_238 (by decide) ?_
              exact jr_weak (hk251 (v125 + v133)) ⟨rfl, rfl, rfl, rfl, trivial⟩
          refine jr_icmp_ne K (tgt := 158) dX11_holdsLine_140 (by decide) ?_ ?_
          · refine jr_iload K dX11_holdsLine_158 rfl ?_
            refine jr_bipush K dX11_holdsLine_160 (v := (nI 9)) (by decide) ?_
            refine jr_icmp_ne K (tgt := 180) dX11_holdsLine_162 (by decide) ?_ ?_
            · refine jr_iload K dX11_holdsLine_180 rfl ?_
              refine jr_bipush K dX11_holdsLine_182 (v := (nI 11)) (by decide) ?_
              refine jr_icmp_ne K (tgt := 204) dX11_holdsLine_184 (by decide) ?_ ?_
              · refine jr_iload K dX11_holdsLine_204 rfl ?_
                refine jr_iload K dX11_holdsLine_206 rfl ?_
                refine jr_iadd K dX11_holdsLine_208 ?_
                refine jr_if_le K (tgt := 216) dX11_holdsLine_209 (by decide) ?_ ?_
                · refine jr_iconst K dX11_holdsLine_216 (v := (nI 0)) (by decide) ?_
                  exact jr_weak (hk217 (nI 0)) ⟨rfl, rfl, rfl, rfl, rfl, rfl, rfl, trivial⟩
                · refine jr_iconst K dX11_holdsLine_212 (v := (nI 1)) (by decide) ?_
                  refine jr_goto K (tgt := 217) dX11_holdsLine_213 (by decide) ?_
                  exact jr_weak (hk217 (nI 1)) ⟨rfl, rfl, rfl, rfl, rfl, rfl, rfl, trivial⟩
              · refine jr_iload K dX11_holdsLine_187 rfl ?_
                refine jr_iload K dX11_holdsLine_189 rfl ?_
                refine jr_iadd K dX11_holdsLine_191 ?_
                refine jr_iconst K dX11_holdsLine_192 (v := (nI 2)) (by decide) ?_
                refine jr_icmp_ne K (tgt := 200) dX11_holdsLine_193 (by decide) ?_ ?_
                · refine jr_iconst K dX11_holdsLine_200 (v := (nI 0)) (by decide) ?_
                  refine jr_goto K (tgt := 217) dX11_holdsLine_201 (by decide) ?_
                  exact jr_weak (hk217 (nI 0)) ⟨rfl, rfl, rfl, rfl, rfl, rfl, rfl, trivial⟩
                · refine jr_iconst K dX11_holdsLine_196 (v := (nI 1)) (by decide) ?_
                  refine jr_goto K (tgt := 217) dX11_holdsLine_197 (by decide) ?_
                  exact jr_weak (hk217 (nI 1)) ⟨rfl, rfl, rfl, rfl, rfl, rfl, rfl, trivial⟩
            · refine jr_iload K dX11_holdsLine_165 rfl ?_
              refine jr_iload K dX11_holdsLine_167 rfl ?_
              refine jr_icmp_le K (tgt := 176) dX11_holdsLine_169 (by decide) ?_ ?_
              · refine jr_iconst K dX11_holdsLine_176 (v := (nI 0)) (by decide) ?_
                refine jr_goto K (tgt := 217) dX11_holdsLine_177 (by decide) ?_
                exact jr_weak (hk217 (nI 0)) ⟨rfl, rfl, rfl, rfl, rfl, rfl, rfl, trivial⟩
              · refine jr_iconst K dX11_holdsLine_172 (v := (nI 1)) (by decide) ?_
                refine jr_goto K (tgt := 217) dX11_holdsLine_173 (by decide) ?_
                exact jr_weak (hk217 (nI 1)) ⟨rfl, rfl, rfl, rfl, rfl, rfl, rfl, trivial⟩
          · refine jr_iload K dX11_holdsLine_143 rfl ?_
            refine jr_iload K dX11_holdsLine_145 rfl ?_
            refine jr_icmp_ge K (tgt := 154) dX11_holdsLine_147 (by decide) ?_ ?_
            · refine jr_iconst K dX11_holdsLine_154 (v := (nI 0)) (by decide) ?_
              refine jr_goto K (tgt := 217) dX11_holdsLine_155 (by decide) ?_
              exact jr_weak (hk217 (nI 0)) ⟨rfl, rfl, rfl, rfl, rfl, rfl, rfl, trivial⟩
            · refine jr_iconst K dX11_holdsLine_150 (v := (nI 1)) (by decide) ?_
              refine jr_goto K (tgt := 217) dX11_holdsLine_151 (by decide) ?_
              exact jr_weak (hk217 (nI 1)) ⟨rfl, rfl, rfl, rfl, rfl, rfl, rfl, trivial⟩
        · refine jr_aload_n K dX11_holdsLine_94 rfl ?_
          refine jr_getA K gf_X11_36 dX11_holdsLine_95 (fun v95 => ?_)
          refine jr_iload_n K dX11_holdsLine_98 rfl ?_
          refine jr_iconst K dX11_holdsLine_99 (v := (nI 1)) (by decide) ?_
          refine jr_isub K dX11_holdsLine_100 ?_
          refine jr_iconst K dX11_holdsLine_101 (v := (nI 1)) (by decide) ?_
          refine jr_aload_n K dX11_holdsLine_102 rfl ?_
          refine jr_getA K gf_X11_36 dX11_holdsLine_103 (fun v103 => ?_)
          refine jr_iload_n K dX11_holdsLine_106 rfl ?_
          refine jr_iconst K dX11_holdsLine_107 (v := (nI 1)) (by decide) ?_
          refine jr_isub K dX11_holdsLine_108 ?_
          refine jr_iald K dX11_holdsLine_109 (fun v109 => ?_)
          refine jr_isub K dX11_holdsLine_110 ?_
          refine jr_iast K dX11_holdsLine_111 ?_
          refine jr_goto K (tgt := 252) dX11_holdsLine_112 (by decide) ?_
          exact jr_weak (hk252 x2_11) ⟨rfl, rfl, rfl, rfl, trivial⟩
      · refine jr_aload_n K dX11_holdsLine_44 rfl ?_
        refine jr_getA K gf_X11_36 dX11_holdsLine_45 (fun v45 => ?_)
        refine jr_iload_n K dX11_holdsLine_48 rfl ?_
        refine jr_iload K dX11_holdsLine_49 rfl ?_
        refine jr_bipush K dX11_holdsLine_51 (v := (nI 6)) (by decide) ?_
        refine jr_join (fun (k80 : Int32 → JP) => ∀ (s2_80 : Int32), JR p l e R s m args below meth c Q D S0 8 bc bs (k80 s2_80) 80 [some (.ref this), some (.int p1), some (.int x2_11), some (.int x3_11), none, none, none, none] [.int s2_80, .int x2_11, .ref v45]) ?_ (fun k80 hk80 => ?_)
        · intro s2_80
          refine jr_iast K dX11_holdsLine_80 ?_
          refine jr_iinc K (v := (x2_11 + (nI 1))) (L' := [some (.ref this), some (.int p1), some (.int (x2_11 + (nI 1))), some (.int x3_11), none, none, none, none]) dX11_holdsLine_81 rfl rfl (by decide) rfl rfl ?_
          refine jr_goto K (tgt := 252) dX11_holdsLine_84 (by decide) ?_
          exact jr_weak (hk252 (x2_11 + (nI 1))) ⟨rfl, rfl, rfl, rfl, trivial⟩
        refine jr_icmp_ne K (tgt := 73) dX11_holdsLine_53 (by decide) ?_ ?_
        · refine jr_aload_n K dX11_holdsLine_73 rfl ?_
          refine jr_getA K gf_X11_33 dX11_holdsLine_74 (fun v74 => ?_)
          refine jr_iload K dX11_holdsLine_77 rfl ?_
          refine jr_iald K dX11_holdsLine_79 (fun v79 => ?_)
          exact jr_weak (hk80 v79) ⟨rfl, rfl, rfl, rfl, trivial⟩
        · refine jr_aload_n K dX11_holdsLine_56 rfl ?_
          refine jr_getA K gf_X11_13 dX11_holdsLine_57 (fun v57 => ?_)
          refine jr_sipush K dX11_holdsLine_60 (v := (nI 484)) (by decide) ?_
          refine jr_iconst K dX11_holdsLine_63 (v := (nI 2)) (by decide) ?_
          refine jr_iload_n K dX11_holdsLine_64 rfl ?_
          refine jr_imul K dX11_holdsLine_65 ?_
          refine jr_iadd K dX11_holdsLine_66 ?_
          refine jr_iconst K dX11_holdsLine_67 (v := (nI 1)) (by decide) ?_
          refine jr_iadd K dX11_holdsLine_68 ?_
          refine jr_iald K dX11_holdsLine_69 (fun v69 => ?_)
          refine jr_goto K (tgt := 80) dX11_holdsLine_70 (by decide) ?_
          exact jr_weak (hk80 v69) ⟨rfl, rfl, rfl, rfl, trivial⟩
theorem wX11_holdsLine (K : JK p l R s m args meth c D S0 A0 8 cX11_holdsLine "MoveNotesModel" 12) (bc bs : Nat) (this : Nat) (p1 : Int32) (Qj : Int32 → JP) (hret : jRetZ p l e R s m args below meth c Q D S0 8 cX11_holdsLine Qj) : JR p l e R s m args below meth c Q D S0 8 bc bs (JX11_holdsLine this p1 Qj) 0 [some (.ref this), some (.int p1), none, none, none, none, none, none] [] := by
  unfold JX11_holdsLine
  refine jr_iconst K dX11_holdsLine_0 (v := (nI 0)) (by decide) ?_
  refine jr_istore_n K (L' := [some (.ref this), some (.int p1), some (.int (nI 0)), none, none, none, none, none]) dX11_holdsLine_1 (by decide) rfl rfl ?_
  refine jr_aload_n K dX11_holdsLine_2 rfl ?_
  refine jr_getA K gf_X11_13 dX11_holdsLine_3 (fun v3 => ?_)
  refine jr_iload_n K dX11_holdsLine_6 rfl ?_
  refine jr_iconst K dX11_holdsLine_7 (v := (nI 2)) (by decide) ?_
  refine jr_iadd K dX11_holdsLine_8 ?_
  refine jr_iald K dX11_holdsLine_9 (fun v9 => ?_)
  refine jr_istore_n K (L' := [some (.ref this), some (.int p1), some (.int (nI 0)), some (.int v9), none, none, none, none]) dX11_holdsLine_10 (by decide) rfl rfl ?_
  refine jr_ex (fun n11 => ?_)
  refine jr_weak (wX11_holdsLine_11 K bc bs this p1 _ ?_ n11 (nI 0) v9) ⟨rfl, rfl, rfl, rfl, trivial⟩
  · intro y2_258
    refine jr_iload_n K dX11_holdsLine_258 rfl ?_
    refine jr_join (fun (k272 : JP) => JR p l e R s m args below meth c Q D S0 8 bc bs k272 272 [none, none, none, none, none, none, none, none] []) ?_ (fun k272 hk272 => ?_)
    · refine jr_iconst K dX11_holdsLine_272 (v := (nI 1)) (by decide) ?_
      refine jr_goto K (tgt := 277) dX11_holdsLine_273 (by decide) ?_
      exact JR.imp (fun _ h => ⟨Or.inr rfl, h⟩) (hret _ _ _ _ _ dX11_holdsLine_277)
    refine jr_if_eq K (tgt := 272) dX11_holdsLine_259 (by decide) ?_ ?_
    · exact jr_weak (hk272) trivial
    · refine jr_aload_n K dX11_holdsLine_262 rfl ?_
      refine jr_getA K gf_X11_36 dX11_holdsLine_263 (fun v263 => ?_)
      refine jr_iconst K dX11_holdsLine_266 (v := (nI 0)) (by decide) ?_
      refine jr_iald K dX11_holdsLine_267 (fun v267 => ?_)
      refine jr_iconst K dX11_holdsLine_268 (v := (nI 1)) (by decide) ?_
      refine jr_icmp_ne K (tgt := 276) dX11_holdsLine_269 (by decide) ?_ ?_
      · refine jr_iconst K dX11_holdsLine_276 (v := (nI 0)) (by decide) ?_
        exact JR.imp (fun _ h => ⟨Or.inl rfl, h⟩) (hret _ _ _ _ _ dX11_holdsLine_277)
      · exact jr_weak (hk272) trivial
theorem metX11_holdsLine (hG : jG l D S0 A0) (this : Nat) (p1 : Int32) (Qj : Int32 → JP) : Met l yX11_holdsLine (ws_ yX11_holdsLine cX11_holdsLine 8 (some .boolean)) (jrm 12 0 0) (va_Pc [.ref this, .int p1] (jB D S0 (JX11_holdsLine this p1 Qj))) (va_Qi Qj (fun σ t => jRep D S0.heap.size σ t.heap) (jA S0)) 0 0 (jA S0) :=
  jr_start hG (by decide) (Nat.le_of_ble_eq_true rfl) rfl fun p e s m below meth c K hr hn => wX11_holdsLine K _ _ this p1 Qj (fun _ _ _ _ _ d => jr_zret K hr d)
theorem wX11_measured_4 (K : JK p l R s m args meth c D S0 A0 4 cX11_measured "MoveNotesModel" 13) (bc bs : Nat) (this : Nat) (Qj : Int32 → JP) (hret : jRetI p l e R s m args below meth c Q D S0 4 cX11_measured Qj) : ∀ (n : Nat) (x1_4 : Int32) (x2_4 : Int32), JR p l e R s m args below meth c Q D S0 4 bc bs (jit (FX11_measured_4 this Qj) (fun _ _ => jbot) n x1_4 x2_4) 4 [some (.ref this), some (.int x1_4), some (.int x2_4), none] [] := by
  intro n
  induction n with
  | zero =>
    intro x1_4 x2_4
    exact JR.bot
  | succ n ih4 =>
    intro x1_4 x2_4
    show JR p l e R s m args below meth c Q D S0 4 bc bs (FX11_measured_4 this Qj (jit (FX11_measured_4 this Qj) (fun _ _ => jbot) n) x1_4 x2_4) 4 [some (.ref this), some (.int x1_4), some (.int x2_4), none] []
    generalize jit (FX11_measured_4 this Qj) (fun _ _ => jbot) n = rec4 at ih4 ⊢
    unfold FX11_measured_4
    refine jr_iload_n K dX11_measured_4 rfl ?_
    refine jr_aload_n K dX11_measured_5 rfl ?_
    refine jr_getA K gf_X11_13 dX11_measured_6 (fun v6 => ?_)
    refine jr_sipush K dX11_measured_9 (v := (nI 443)) (by decide) ?_
    refine jr_iald K dX11_measured_12 (fun v12 => ?_)
    refine jr_icmp_ge K (tgt := 76) dX11_measured_13 (by decide) ?_ ?_
    · refine jr_iload_n K dX11_measured_76 rfl ?_
      exact hret _ _ _ _ _ dX11_measured_77
    · refine jr_sipush K dX11_measured_16 (v := (nI 444)) (by decide) ?_
      refine jr_iconst K dX11_measured_19 (v := (nI 4)) (by decide) ?_
      refine jr_iload_n K dX11_measured_20 rfl ?_
      refine jr_imul K dX11_measured_21 ?_
      refine jr_iadd K dX11_measured_22 ?_
      refine jr_istore_n K (L' := [some (.ref this), some (.int x1_4), some (.int x2_4), some (.int ((nI 444) + ((nI 4) * x2_4)))]) dX11_measured_23 (by decide) rfl rfl ?_
      refine jr_aload_n K dX11_measured_24 rfl ?_
      refine jr_iload_n K dX11_measured_25 rfl ?_
      refine jr_calli0 (jrun_V (As := [.int ((nI 444) + ((nI 4) * x2_4))]) (st := []) (ci := 11) K (metX11_holdsLine K.hG this ((nI 444) + ((nI 4) * x2_4)) _) mtX11_holdsLine mvX11_holdsLine q1955 rfl rfl rfl (Nat.le_of_ble_eq_true rfl) (by decide) ⟨Nat.zero_le _, Nat.zero_le _⟩ dX11_measured_26) (fun v26 => ?_)
      refine jr_join (fun (k70 : Int32 → JP) => ∀ (x1_70 : Int32), JR p l e R s m args below meth c Q D S0 4 bc bs (k70 x1_70) 70 [some (.ref this), some (.int x1_70), some (.int x2_4), none] []) ?_ (fun k70 hk70 => ?_)
      · intro x1_70
        refine jr_iinc K (v := (x2_4 + (nI 1))) (L' := [some (.ref this), some (.int x1_70), some (.int (x2_4 + (nI 1))), none]) dX11_measured_70 rfl rfl (by decide) rfl rfl ?_
        refine jr_goto K (tgt := 4) dX11_measured_73 (by decide) ?_
        exact jr_weak (ih4 x1_70 (x2_4 + (nI 1))) ⟨rfl, rfl, rfl, trivial⟩
      refine jr_if_eq K (tgt := 70) dX11_measured_29 (by decide) ?_ ?_
      · exact jr_weak (hk70 x1_4) ⟨rfl, rfl, rfl, trivial⟩
      · refine jr_iload_n K dX11_measured_32 rfl ?_
        refine jr_aload_n K dX11_measured_33 rfl ?_
        refine jr_getA K gf_X11_13 dX11_measured_34 (fun v34 => ?_)
        refine jr_iload_n K dX11_measured_37 rfl ?_
        refine jr_iald K dX11_measured_38 (fun v38 => ?_)
        refine jr_aload_n K dX11_measured_39 rfl ?_
        refine jr_getA K gf_X11_13 dX11_measured_40 (fun v40 => ?_)
        refine jr_iload_n K dX11_measured_43 rfl ?_
        refine jr_iconst K dX11_measured_44 (v := (nI 1)) (by decide) ?_
        refine jr_iadd K dX11_measured_45 ?_
        refine jr_iald K dX11_measured_46 (fun v46 => ?_)
        refine jr_join (fun (k67 : Int32 → JP) => ∀ (s2_67 : Int32), JR p l e R s m args below meth c Q D S0 4 bc bs (k67 s2_67) 67 [some (.ref this), none, some (.int x2_4), none] [.int s2_67, .int v38, .int x1_4]) ?_ (fun k67 hk67 => ?_)
        · intro s2_67
          refine jr_imul K dX11_measured_67 ?_
          refine jr_iadd K dX11_measured_68 ?_
          refine jr_istore_n K (L' := [some (.ref this), some (.int (x1_4 + (v38 * s2_67))), some (.int x2_4), none]) dX11_measured_69 (by decide) rfl rfl ?_
          exact jr_weak (hk70 (x1_4 + (v38 * s2_67))) ⟨rfl, rfl, rfl, trivial⟩
        refine jr_if_ge K (tgt := 54) dX11_measured_47 (by decide) ?_ ?_
        · refine jr_aload_n K dX11_measured_54 rfl ?_
          refine jr_getA K gf_X11_33 dX11_measured_55 (fun v55 => ?_)
          refine jr_aload_n K dX11_measured_58 rfl ?_
          refine jr_getA K gf_X11_13 dX11_measured_59 (fun v59 => ?_)
          refine jr_iload_n K dX11_measured_62 rfl ?_
          refine jr_iconst K dX11_measured_63 (v := (nI 1)) (by decide) ?_
          refine jr_iadd K dX11_measured_64 ?_
          refine jr_iald K dX11_measured_65 (fun v65 => ?_)
          refine jr_iald K dX11_measured_66 (fun v66 => ?_)
          exact jr_weak (hk67 v66) ⟨rfl, rfl, trivial⟩
        · refine jr_iconst K dX11_measured_50 (v := (nI 1)) (by decide) ?_
          refine jr_goto K (tgt := 67) dX11_measured_51 (by decide) ?_
          exact jr_weak (hk67 (nI 1)) ⟨rfl, rfl, trivial⟩
theorem wX11_measured (K : JK p l R s m args meth c D S0 A0 4 cX11_measured "MoveNotesModel" 13) (bc bs : Nat) (this : Nat) (Qj : Int32 → JP) (hret : jRetI p l e R s m args below meth c Q D S0 4 cX11_measured Qj) : JR p l e R s m args below meth c Q D S0 4 bc bs (JX11_measured this Qj) 0 [some (.ref this), none, none, none] [] := by
  unfold JX11_measured
  refine jr_iconst K dX11_measured_0 (v := (nI 0)) (by decide) ?_
  refine jr_istore_n K (L' := [some (.ref this), some (.int (nI 0)), none, none]) dX11_measured_1 (by decide) rfl rfl ?_
  refine jr_iconst K dX11_measured_2 (v := (nI 0)) (by decide) ?_
  refine jr_istore_n K (L' := [some (.ref this), some (.int (nI 0)), some (.int (nI 0)), none]) dX11_measured_3 (by decide) rfl rfl ?_
  refine jr_ex (fun n4 => ?_)
  refine jr_weak (wX11_measured_4 K bc bs this Qj hret n4 (nI 0) (nI 0)) ⟨rfl, rfl, rfl, trivial⟩
theorem metX11_measured (hG : jG l D S0 A0) (this : Nat) (Qj : Int32 → JP) : Met l yX11_measured (ws_ yX11_measured cX11_measured 4 (some .int)) (jrm 13 0 0) (va_Pc [.ref this] (jB D S0 (JX11_measured this Qj))) (va_Qi Qj (fun σ t => jRep D S0.heap.size σ t.heap) (jA S0)) 0 0 (jA S0) :=
  jr_start hG (by decide) (Nat.le_of_ble_eq_true rfl) rfl fun p e s m below meth c K hr hn => wX11_measured K _ _ this Qj (fun _ _ _ _ _ d => jr_iret K hr rfl d)
theorem wX11_measures_121 (K : JK p l R s m args meth c D S0 A0 7 cX11_measures "MoveNotesModel" 14) (bc bs : Nat) (this : Nat) (p1 : Int32) (v19 : Int32) (v39 : Int32) (k204 : JP) (hk204 : JR p l e R s m args below meth c Q D S0 7 bc bs k204 204 [some (.ref this), some (.int p1), none, none, none, none, none] []) : ∀ (n : Nat) (x6_121 : Int32), JR p l e R s m args below meth c Q D S0 7 bc bs (jit (FX11_measures_121 this p1 v19 v39 k204) (fun _ => jbot) n x6_121) 121 [some (.ref this), some (.int p1), none, some (.int (jrem v19 (nI 36))), none, some (.int v39), some (.int x6_121)] [] := by
  intro n
  induction n with
  | zero =>
    intro x6_121
    exact JR.bot
  | succ n ih121 =>
    intro x6_121
    show JR p l e R s m args below meth c Q D S0 7 bc bs (FX11_measures_121 this p1 v19 v39 k204 (jit (FX11_measures_121 this p1 v19 v39 k204) (fun _ => jbot) n) x6_121) 121 [some (.ref this), some (.int p1), none, some (.int (jrem v19 (nI 36))), none, some (.int v39), some (.int x6_121)] []
    generalize jit (FX11_measures_121 this p1 v19 v39 k204) (fun _ => jbot) n = rec121 at ih121 ⊢
    unfold FX11_measures_121
    refine jr_iload K dX11_measures_121 rfl ?_
    refine jr_bipush K dX11_measures_123 (v := (nI 36)) (by decide) ?_
    refine jr_icmp_ge K (tgt := 204) dX11_measures_125 (by decide) ?_ ?_
    · exact jr_weak (hk204) ⟨rfl, rfl, trivial⟩
    · refine jr_aload_n K dX11_measures_128 rfl ?_
      refine jr_getA K gf_X11_33 dX11_measures_129 (fun v129 => ?_)
      refine jr_iconst K dX11_measures_132 (v := (nI 3)) (by decide) ?_
      refine jr_dup2 K dX11_measures_133 rfl rfl ?_
      refine jr_iald K dX11_measures_134 (fun v134 => ?_)
      refine jr_aload_n K dX11_measures_135 rfl ?_
      refine jr_iload_n K dX11_measures_136 rfl ?_
      refine jr_iload K dX11_measures_137 rfl ?_
      refine jr_calli0 (jrun_V (As := [.int p1, .int x6_121]) (st := [.int v134, .int (nI 3), .ref v129]) (ci := 11) K (metX11_at K.hG this p1 x6_121 _) mtX11_at mvX11_at q1845 rfl rfl rfl (Nat.le_of_ble_eq_true rfl) (by decide) ⟨Nat.zero_le _, Nat.zero_le _⟩ dX11_measures_139) (fun v139 => ?_)
      refine jr_join (fun (k168 : Int32 → JP) => ∀ (s3_168 : Int32), JR p l e R s m args below meth c Q D S0 7 bc bs (k168 s3_168) 168 [some (.ref this), some (.int p1), none, some (.int (jrem v19 (nI 36))), none, some (.int v39), some (.int x6_121)] [.int s3_168, .int v134, .int (nI 3), .ref v129]) ?_ (fun k168 hk168 => ?_)
      · intro s3_168
        refine jr_iadd K dX11_measures_168 ?_
        refine jr_iast K dX11_measures_169 ?_
        refine jr_aload_n K dX11_measures_170 rfl ?_
        refine jr_getA K gf_X11_43 dX11_measures_171 (fun v171 => ?_)
        refine jr_sipush K dX11_measures_174 (v := (nI 1296)) (by decide) ?_
        refine jr_iload_n K dX11_measures_177 rfl ?_
        refine jr_imul K dX11_measures_178 ?_
        refine jr_bipush K dX11_measures_179 (v := (nI 36)) (by decide) ?_
        refine jr_iload K dX11_measures_181 rfl ?_
        refine jr_imul K dX11_measures_183 ?_
        refine jr_iadd K dX11_measures_184 ?_
        refine jr_iload_n K dX11_measures_185 rfl ?_
        refine jr_iadd K dX11_measures_186 ?_
        refine jr_zald K dX11_measures_187 (fun v187 => ?_)
        refine jr_join (fun (k198 : JP) => JR p l e R s m args below meth c Q D S0 7 bc bs k198 198 [some (.ref this), some (.int p1), none, some (.int (jrem v19 (nI 36))), none, some (.int v39), some (.int x6_121)] []) ?_ (fun k198 hk198 => ?_)
        · refine jr_iinc K (v := (x6_121 + (nI 1))) (L' := [some (.ref this), some (.int p1), none, some (.int (jrem v19 (nI 36))), none, some (.int v39), some (.int (x6_121 + (nI 1)))]) dX11_measures_198 rfl rfl (by decide) rfl rfl ?_
          refine jr_goto K (tgt := 121) dX11_measures_201 (by decide) ?_
          exact jr_weak (ih121 (x6_121 + (nI 1))) ⟨rfl, rfl, rfl, rfl, rfl, trivial⟩
        refine jr_if_eq K (tgt := 198) dX11_measures_188 (by decide) ?_ ?_
        · exact jr_weak (hk198) ⟨rfl, rfl, rfl, rfl, rfl, trivial⟩
        · refine jr_aload_n K dX11_measures_191 rfl ?_
          refine jr_getA K gf_X11_33 dX11_measures_192 (fun v192 => ?_)
          refine jr_iconst K dX11_measures_195 (v := (nI 5)) (by decide) ?_
          refine jr_iconst K dX11_measures_196 (v := (nI 0)) (by decide) ?_
          refine jr_iast K dX11_measures_197 ?_
          exact jr_weak (hk198) ⟨rfl, rfl, rfl, rfl, rfl, trivial⟩
      refine jr_join (fun (k167 : JP) => JR p l e R s m args below meth c Q D S0 7 bc bs k167 167 [some (.ref this), some (.int p1), none, some (.int (jrem v19 (nI 36))), none, some (.int v39), some (.int x6_121)] [.int v134, .int (nI 3), .ref v129]) ?_ (fun k167 hk167 => ?_)
      · refine jr_iconst K dX11_measures_167 (v := (nI 0)) (by decide) ?_
        exact jr_weak (hk168 (nI 0)) ⟨rfl, rfl, rfl, rfl, rfl, trivial⟩
      refine jr_if_lt K (tgt := 167) dX11_measures_142 (by decide) ?_ ?_
      · exact jr_weak (hk167) ⟨rfl, rfl, rfl, rfl, rfl, trivial⟩
      · refine jr_aload_n K dX11_measures_145 rfl ?_
        refine jr_iload_n K dX11_measures_146 rfl ?_
        refine jr_iload K dX11_measures_147 rfl ?_
        refine jr_calli0 (jrun_V (As := [.int p1, .int x6_121]) (st := [.int v134, .int (nI 3), .ref v129]) (ci := 11) K (metX11_at K.hG this p1 x6_121 _) mtX11_at mvX11_at q1845 rfl rfl rfl (Nat.le_of_ble_eq_true rfl) (by decide) ⟨Nat.zero_le _, Nat.zero_le _⟩ dX11_measures_149) (fun v149 => ?_)
        refine jr_calli0 (jrun_S (As := [.int v149]) (st := [.int v134, .int (nI 3), .ref v129]) K (metX11_sideOf K.hG v149 _) mtX11_sideOf q1850 q1849 rfl rfl (Nat.le_of_ble_eq_true rfl) (by decide) ⟨Nat.zero_le _, Nat.zero_le _⟩ dX11_measures_152) (fun v152 => ?_)
        refine jr_iload K dX11_measures_155 rfl ?_
        refine jr_calli0 (jrun_S (As := [.int v39]) (st := [.int v152, .int v134, .int (nI 3), .ref v129]) K (metX11_sideOf K.hG v39 _) mtX11_sideOf q1850 q1849 rfl rfl (Nat.le_of_ble_eq_true rfl) (by decide) ⟨Nat.zero_le _, Nat.zero_le _⟩ dX11_measures_157) (fun v157 => ?_)
        refine jr_icmp_ne K (tgt := 167) dX11_measures_160 (by decide) ?_ ?_
        · exact jr_weak (hk167) ⟨rfl, rfl, rfl, rfl, rfl, trivial⟩
        · refine jr_iconst K dX11_measures_163 (v := (nI 1)) (by decide) ?_
          refine jr_goto K (tgt := 168) dX11_measures_164 (by decide) ?_
          exact jr_weak (hk168 (nI 1)) ⟨rfl, rfl, rfl, rfl, rfl, trivial⟩
theorem wX11_measures (K : JK p l R s m args meth c D S0 A0 7 cX11_measures "MoveNotesModel" 14) (bc bs : Nat) (this : Nat) (p1 : Int32) (Qj : JP) (hret : jRetV p l e R s m args below meth c Q D S0 7 cX11_measures Qj) : JR p l e R s m args below meth c Q D S0 7 bc bs (JX11_measures this p1 Qj) 0 [some (.ref this), some (.int p1), none, none, none, none, none] [] := by
  unfold JX11_measures
  refine jr_iload_n K dX11_measures_0 rfl ?_
  refine jr_if_ne K (tgt := 12) dX11_measures_1 (by decide) ?_ ?_
  · refine jr_aload_n K dX11_measures_12 rfl ?_
    refine jr_getA K gf_X11_53 dX11_measures_13 (fun v13 => ?_)
    refine jr_iload_n K dX11_measures_16 rfl ?_
    refine jr_iconst K dX11_measures_17 (v := (nI 1)) (by decide) ?_
    refine jr_isub K dX11_measures_18 ?_
    refine jr_iald K dX11_measures_19 (fun v19 => ?_)
    refine jr_istore_n K (L' := [some (.ref this), some (.int p1), some (.int v19), none, none, none, none]) dX11_measures_20 (by decide) rfl rfl ?_
    refine jr_iload_n K dX11_measures_21 rfl ?_
    refine jr_bipush K dX11_measures_22 (v := (nI 36)) (by decide) ?_
    refine jr_irem K dX11_measures_24 (by decide) ?_
    refine jr_istore_n K (L' := [some (.ref this), some (.int p1), some (.int v19), some (.int (jrem v19 (nI 36))), none, none, none]) dX11_measures_25 (by decide) rfl rfl ?_
    refine jr_aload_n K dX11_measures_26 rfl ?_
    refine jr_iload_n K dX11_measures_27 rfl ?_
    refine jr_iconst K dX11_measures_28 (v := (nI 1)) (by decide) ?_
    refine jr_isub K dX11_measures_29 ?_
    refine jr_iload_n K dX11_measures_30 rfl ?_
    refine jr_calli0 (jrun_V (As := [.int (p1 - (nI 1)), .int (jrem v19 (nI 36))]) (st := []) (ci := 11) K (metX11_at K.hG this (p1 - (nI 1)) (jrem v19 (nI 36)) _) mtX11_at mvX11_at q1845 rfl rfl rfl (Nat.le_of_ble_eq_true rfl) (by decide) ⟨Nat.zero_le _, Nat.zero_le _⟩ dX11_measures_31) (fun v31 => ?_)
    refine jr_istore K (L' := [some (.ref this), some (.int p1), some (.int v19), some (.int (jrem v19 (nI 36))), some (.int v31), none, none]) dX11_measures_34 (by decide) rfl rfl ?_
    refine jr_aload_n K dX11_measures_36 rfl ?_
    refine jr_iload_n K dX11_measures_37 rfl ?_
    refine jr_iload_n K dX11_measures_38 rfl ?_
    refine jr_calli0 (jrun_V (As := [.int p1, .int (jrem v19 (nI 36))]) (st := []) (ci := 11) K (metX11_at K.hG this p1 (jrem v19 (nI 36)) _) mtX11_at mvX11_at q1845 rfl rfl rfl (Nat.le_of_ble_eq_true rfl) (by decide) ⟨Nat.zero_le _, Nat.zero_le _⟩ dX11_measures_39) (fun v39 => ?_)
    refine jr_istore K (L' := [some (.ref this), some (.int p1), some (.int v19), some (.int (jrem v19 (nI 36))), some (.int v31), some (.int v39), none]) dX11_measures_42 (by decide) rfl rfl ?_
    refine jr_aload_n K dX11_measures_44 rfl ?_
    refine jr_getA K gf_X11_33 dX11_measures_45 (fun v45 => ?_)
    refine jr_iconst K dX11_measures_48 (v := (nI 0)) (by decide) ?_
    refine jr_iload K dX11_measures_49 rfl ?_
    refine jr_join (fun (k66 : Int32 → JP) => ∀ (s2_66 : Int32), JR p l e R s m args below meth c Q D S0 7 bc bs (k66 s2_66) 66 [some (.ref this), some (.int p1), none, some (.int (jrem v19 (nI 36))), some (.int v31), some (.int v39), none] [.int s2_66, .int (nI 0), .ref v45]) ?_ (fun k66 hk66 => ?_)
    · intro s2_66
      refine jr_iast K dX11_measures_66 ?_
      refine jr_aload_n K dX11_measures_67 rfl ?_
      refine jr_getA K gf_X11_33 dX11_measures_68 (fun v68 => ?_)
      refine jr_iconst K dX11_measures_71 (v := (nI 1)) (by decide) ?_
      refine jr_aload_n K dX11_measures_72 rfl ?_
      refine jr_iload K dX11_measures_73 rfl ?_
      refine jr_iconst K dX11_measures_75 (v := (nI 2)) (by decide) ?_
      refine jr_idiv K dX11_measures_76 (by decide) ?_
      refine jr_calli0 (jrun_V (As := [.int (v39 / (nI 2))]) (st := [.int (nI 1), .ref v68]) (ci := 11) K (metX11_valueOf K.hG this (v39 / (nI 2)) _) mtX11_valueOf mvX11_valueOf q1947 rfl rfl rfl (Nat.le_of_ble_eq_true rfl) (by decide) ⟨Nat.zero_le _, Nat.zero_le _⟩ dX11_measures_77) (fun v77 => ?_)
      refine jr_iast K dX11_measures_80 ?_
      refine jr_aload_n K dX11_measures_81 rfl ?_
      refine jr_getA K gf_X11_33 dX11_measures_82 (fun v82 => ?_)
      refine jr_iconst K dX11_measures_85 (v := (nI 2)) (by decide) ?_
      refine jr_iload_n K dX11_measures_86 rfl ?_
      refine jr_iast K dX11_measures_87 ?_
      refine jr_aload_n K dX11_measures_88 rfl ?_
      refine jr_getA K gf_X11_33 dX11_measures_89 (fun v89 => ?_)
      refine jr_iconst K dX11_measures_92 (v := (nI 4)) (by decide) ?_
      refine jr_iload K dX11_measures_93 rfl ?_
      refine jr_join (fun (k103 : Int32 → JP) => ∀ (s2_103 : Int32), JR p l e R s m args below meth c Q D S0 7 bc bs (k103 s2_103) 103 [some (.ref this), some (.int p1), none, some (.int (jrem v19 (nI 36))), none, some (.int v39), none] [.int s2_103, .int (nI 4), .ref v89]) ?_ (fun k103 hk103 => ?_)
      · intro s2_103
        refine jr_iast K dX11_measures_103 ?_
        refine jr_aload_n K dX11_measures_104 rfl ?_
        refine jr_getA K gf_X11_33 dX11_measures_105 (fun v105 => ?_)
        refine jr_iconst K dX11_measures_108 (v := (nI 5)) (by decide) ?_
        refine jr_iconst K dX11_measures_109 (v := (nI 1)) (by decide) ?_
        refine jr_iast K dX11_measures_110 ?_
        refine jr_aload_n K dX11_measures_111 rfl ?_
        refine jr_getA K gf_X11_33 dX11_measures_112 (fun v112 => ?_)
        refine jr_iconst K dX11_measures_115 (v := (nI 3)) (by decide) ?_
        refine jr_iconst K dX11_measures_116 (v := (nI 0)) (by decide) ?_
        refine jr_iast K dX11_measures_117 ?_
        refine jr_iconst K dX11_measures_118 (v := (nI 0)) (by decide) ?_
        refine jr_istore K (L' := [some (.ref this), some (.int p1), none, some (.int (jrem v19 (nI 36))), none, some (.int v39), some (.int (nI 0))]) dX11_measures_119 (by decide) rfl rfl ?_
        refine jr_ex (fun n121 => ?_)
        refine jr_weak (wX11_measures_121 K bc bs this p1 v19 v39 _ ?_ n121 (nI 0)) ⟨rfl, rfl, rfl, rfl, rfl, trivial⟩
        · refine jr_aload_n K dX11_measures_204 rfl ?_
          refine jr_getA K gf_X11_84 dX11_measures_205 (fun v205 => ?_)
          refine jr_iload_n K dX11_measures_208 rfl ?_
          refine jr_aload_n K dX11_measures_209 rfl ?_
          refine jr_getA K gf_X11_84 dX11_measures_210 (fun v210 => ?_)
          refine jr_iload_n K dX11_measures_213 rfl ?_
          refine jr_iconst K dX11_measures_214 (v := (nI 1)) (by decide) ?_
          refine jr_isub K dX11_measures_215 ?_
          refine jr_iald K dX11_measures_216 (fun v216 => ?_)
          refine jr_aload_n K dX11_measures_217 rfl ?_
          refine jr_getA K gf_X11_13 dX11_measures_218 (fun v218 => ?_)
          refine jr_iconst K dX11_measures_221 (v := (nI 4)) (by decide) ?_
          refine jr_iald K dX11_measures_222 (fun v222 => ?_)
          refine jr_iconst K dX11_measures_223 (v := (nI 1)) (by decide) ?_
          refine jr_join (fun (k235 : Int32 → JP) => ∀ (s3_235 : Int32), JR p l e R s m args below meth c Q D S0 7 bc bs (k235 s3_235) 235 [none, none, none, none, none, none, none] [.int s3_235, .int v216, .int p1, .ref v205]) ?_ (fun k235 hk235 => ?_)
          · intro s3_235
            refine jr_iadd K dX11_measures_235 ?_
            refine jr_iast K dX11_measures_236 ?_
            exact hret _ _ _ _ dX11_measures_237
          refine jr_icmp_ne K (tgt := 234) dX11_measures_224 (by decide) ?_ ?_
          · refine jr_iconst K dX11_measures_234 (v := (nI 0)) (by decide) ?_
            exact jr_weak (hk235 (nI 0)) trivial
          · refine jr_aload_n K dX11_measures_227 rfl ?_
            refine jr_calli0 (jrun_V (As := []) (st := [.int v216, .int p1, .ref v205]) (ci := 11) K (metX11_measured K.hG this _) mtX11_measured mvX11_measured q1951 rfl rfl rfl (Nat.le_of_ble_eq_true rfl) (by decide) ⟨Nat.zero_le _, Nat.zero_le _⟩ dX11_measures_228) (fun v228 => ?_)
            refine jr_goto K (tgt := 235) dX11_measures_231 (by decide) ?_
            exact jr_weak (hk235 v228) trivial
      refine jr_if_ge K (tgt := 102) dX11_measures_95 (by decide) ?_ ?_
      · refine jr_iconst K dX11_measures_102 (v := (nI 1)) (by decide) ?_
        exact jr_weak (hk103 (nI 1)) ⟨rfl, rfl, rfl, rfl, trivial⟩
      · refine jr_iconst K dX11_measures_98 (v := (nI 0)) (by decide) ?_
        refine jr_goto K (tgt := 103) dX11_measures_99 (by decide) ?_
        exact jr_weak (hk103 (nI 0)) ⟨rfl, rfl, rfl, rfl, trivial⟩
    refine jr_if_ge K (tgt := 58) dX11_measures_51 (by decide) ?_ ?_
    · refine jr_aload_n K dX11_measures_58 rfl ?_
      refine jr_iload K dX11_measures_59 rfl ?_
      refine jr_iconst K dX11_measures_61 (v := (nI 2)) (by decide) ?_
      refine jr_idiv K dX11_measures_62 (by decide) ?_
      refine jr_calli0 (jrun_V (As := [.int (v31 / (nI 2))]) (st := [.int (nI 0), .ref v45]) (ci := 11) K (metX11_valueOf K.hG this (v31 / (nI 2)) _) mtX11_valueOf mvX11_valueOf q1947 rfl rfl rfl (Nat.le_of_ble_eq_true rfl) (by decide) ⟨Nat.zero_le _, Nat.zero_le _⟩ dX11_measures_63) (fun v63 => ?_)
      exact jr_weak (hk66 v63) ⟨rfl, rfl, rfl, rfl, rfl, trivial⟩
    · refine jr_iconst K dX11_measures_54 (v := (nI 0)) (by decide) ?_
      refine jr_goto K (tgt := 66) dX11_measures_55 (by decide) ?_
      exact jr_weak (hk66 (nI 0)) ⟨rfl, rfl, rfl, rfl, rfl, trivial⟩
  · refine jr_aload_n K dX11_measures_4 rfl ?_
    refine jr_getA K gf_X11_84 dX11_measures_5 (fun v5 => ?_)
    refine jr_iconst K dX11_measures_8 (v := (nI 0)) (by decide) ?_
    refine jr_iconst K dX11_measures_9 (v := (nI 0)) (by decide) ?_
    refine jr_iast K dX11_measures_10 ?_
    exact hret _ _ _ _ dX11_measures_11
theorem metX11_measures (hG : jG l D S0 A0) (this : Nat) (p1 : Int32) (Qj : JP) : Met l yX11_measures (ws_ yX11_measures cX11_measures 7 none) (jrm 14 0 0) (va_Pc [.ref this, .int p1] (jB D S0 (JX11_measures this p1 Qj))) (va_Qv Qj (fun σ t => jRep D S0.heap.size σ t.heap) (jA S0)) 0 0 (jA S0) :=
  jr_start hG (by decide) (Nat.le_of_ble_eq_true rfl) rfl fun p e s m below meth c K hr hn => wX11_measures K _ _ this p1 Qj (fun _ _ _ _ d => jr_vret K hr d)
theorem wX11_isBarred_4 (K : JK p l R s m args meth c D S0 A0 5 cX11_isBarred "MoveNotesModel" 13) (bc bs : Nat) (this : Nat) (p1 : Int32) (Qj : Int32 → JP) (hret : jRetZ p l e R s m args below meth c Q D S0 5 cX11_isBarred Qj) : ∀ (n : Nat) (x2_4 : Int32) (x3_4 : Int32), JR p l e R s m args below meth c Q D S0 5 bc bs (jit (FX11_isBarred_4 this p1 Qj) (fun _ _ => jbot) n x2_4 x3_4) 4 [some (.ref this), some (.int p1), some (.int x2_4), some (.int x3_4), none] [] := by
  intro n
  induction n with
  | zero =>
    intro x2_4 x3_4
    exact JR.bot
  | succ n ih4 =>
    intro x2_4 x3_4
    show JR p l e R s m args below meth c Q D S0 5 bc bs (FX11_isBarred_4 this p1 Qj (jit (FX11_isBarred_4 this p1 Qj) (fun _ _ => jbot) n) x2_4 x3_4) 4 [some (.ref this), some (.int p1), some (.int x2_4), some (.int x3_4), none] []
    generalize jit (FX11_isBarred_4 this p1 Qj) (fun _ _ => jbot) n = rec4 at ih4 ⊢
    unfold FX11_isBarred_4
    refine jr_iload_n K dX11_isBarred_4 rfl ?_
    refine jr_aload_n K dX11_isBarred_5 rfl ?_
    refine jr_getA K gf_X11_13 dX11_isBarred_6 (fun v6 => ?_)
    refine jr_iconst K dX11_isBarred_9 (v := (nI 2)) (by decide) ?_
    refine jr_iald K dX11_isBarred_10 (fun v10 => ?_)
    refine jr_icmp_ge K (tgt := 83) dX11_isBarred_11 (by decide) ?_ ?_
    · refine jr_iload_n K dX11_isBarred_83 rfl ?_
      exact hret _ _ _ _ _ dX11_isBarred_84
    · refine jr_aload_n K dX11_isBarred_14 rfl ?_
      refine jr_getI K gf_X11_359 dX11_isBarred_15 (fun v15 => ?_)
      refine jr_if_ne K (tgt := 83) dX11_isBarred_18 (by decide) ?_ ?_
      · refine jr_iload_n K dX11_isBarred_83 rfl ?_
        exact hret _ _ _ _ _ dX11_isBarred_84
      · refine jr_sipush K dX11_isBarred_21 (v := (nI 413)) (by decide) ?_
        refine jr_iconst K dX11_isBarred_24 (v := (nI 3)) (by decide) ?_
        refine jr_iload_n K dX11_isBarred_25 rfl ?_
        refine jr_imul K dX11_isBarred_26 ?_
        refine jr_iadd K dX11_isBarred_27 ?_
        refine jr_istore K (L' := [some (.ref this), some (.int p1), some (.int x2_4), some (.int x3_4), some (.int ((nI 413) + ((nI 3) * x3_4)))]) dX11_isBarred_28 (by decide) rfl rfl ?_
        refine jr_iload_n K dX11_isBarred_30 rfl ?_
        refine jr_join (fun (k76 : Int32 → JP) => ∀ (s0_76 : Int32), JR p l e R s m args below meth c Q D S0 5 bc bs (k76 s0_76) 76 [some (.ref this), some (.int p1), none, some (.int x3_4), none] [.int s0_76]) ?_ (fun k76 hk76 => ?_)
        · intro s0_76
          refine jr_istore_n K (L' := [some (.ref this), some (.int p1), some (.int s0_76), some (.int x3_4), none]) dX11_isBarred_76 (by decide) rfl rfl ?_
          refine jr_iinc K (v := (x3_4 + (nI 1))) (L' := [some (.ref this), some (.int p1), some (.int s0_76), some (.int (x3_4 + (nI 1))), none]) dX11_isBarred_77 rfl rfl (by decide) rfl rfl ?_
          refine jr_goto K (tgt := 4) dX11_isBarred_80 (by decide) ?_
          exact jr_weak (ih4 s0_76 (x3_4 + (nI 1))) ⟨rfl, rfl, rfl, rfl, trivial⟩
        refine jr_join (fun (k71 : JP) => JR p l e R s m args below meth c Q D S0 5 bc bs k71 71 [some (.ref this), some (.int p1), none, some (.int x3_4), none] []) ?_ (fun k71 hk71 => ?_)
        · refine jr_iconst K dX11_isBarred_71 (v := (nI 1)) (by decide) ?_
          refine jr_goto K (tgt := 76) dX11_isBarred_72 (by decide) ?_
          exact jr_weak (hk76 (nI 1)) ⟨rfl, rfl, rfl, trivial⟩
        refine jr_if_ne K (tgt := 71) dX11_isBarred_31 (by decide) ?_ ?_
        · exact jr_weak (hk71) ⟨rfl, rfl, rfl, trivial⟩
        · refine jr_aload_n K dX11_isBarred_34 rfl ?_
          refine jr_getA K gf_X11_13 dX11_isBarred_35 (fun v35 => ?_)
          refine jr_iload K dX11_isBarred_38 rfl ?_
          refine jr_iald K dX11_isBarred_40 (fun v40 => ?_)
          refine jr_iload_n K dX11_isBarred_41 rfl ?_
          refine jr_join (fun (k75 : JP) => JR p l e R s m args below meth c Q D S0 5 bc bs k75 75 [some (.ref this), some (.int p1), none, some (.int x3_4), none] []) ?_ (fun k75 hk75 => ?_)
          · refine jr_iconst K dX11_isBarred_75 (v := (nI 0)) (by decide) ?_
            exact jr_weak (hk76 (nI 0)) ⟨rfl, rfl, rfl, trivial⟩
          refine jr_icmp_ne K (tgt := 75) dX11_isBarred_42 (by decide) ?_ ?_
          · exact jr_weak (hk75) ⟨rfl, rfl, rfl, trivial⟩
          · refine jr_aload_n K dX11_isBarred_45 rfl ?_
            refine jr_iload_n K dX11_isBarred_46 rfl ?_
            refine jr_aload_n K dX11_isBarred_47 rfl ?_
            refine jr_getA K gf_X11_13 dX11_isBarred_48 (fun v48 => ?_)
            refine jr_iload K dX11_isBarred_51 rfl ?_
            refine jr_iconst K dX11_isBarred_53 (v := (nI 1)) (by decide) ?_
            refine jr_iadd K dX11_isBarred_54 ?_
            refine jr_iald K dX11_isBarred_55 (fun v55 => ?_)
            refine jr_calli0 (jrun_V (As := [.int p1, .int v55]) (st := []) (ci := 11) K (metX11_at K.hG this p1 v55 _) mtX11_at mvX11_at q1845 rfl rfl rfl (Nat.le_of_ble_eq_true rfl) (by decide) ⟨Nat.zero_le _, Nat.zero_le _⟩ dX11_isBarred_56) (fun v56 => ?_)
            refine jr_aload_n K dX11_isBarred_59 rfl ?_
            refine jr_getA K gf_X11_13 dX11_isBarred_60 (fun v60 => ?_)
            refine jr_iload K dX11_isBarred_63 rfl ?_
            refine jr_iconst K dX11_isBarred_65 (v := (nI 2)) (by decide) ?_
            refine jr_iadd K dX11_isBarred_66 ?_
            refine jr_iald K dX11_isBarred_67 (fun v67 => ?_)
            refine jr_icmp_eq K (tgt := 75) dX11_isBarred_68 (by decide) ?_ ?_
            · exact jr_weak (hk75) ⟨rfl, rfl, rfl, trivial⟩
            · exact jr_weak (hk71) ⟨rfl, rfl, rfl, trivial⟩
theorem wX11_isBarred (K : JK p l R s m args meth c D S0 A0 5 cX11_isBarred "MoveNotesModel" 13) (bc bs : Nat) (this : Nat) (p1 : Int32) (Qj : Int32 → JP) (hret : jRetZ p l e R s m args below meth c Q D S0 5 cX11_isBarred Qj) : JR p l e R s m args below meth c Q D S0 5 bc bs (JX11_isBarred this p1 Qj) 0 [some (.ref this), some (.int p1), none, none, none] [] := by
  unfold JX11_isBarred
  refine jr_iconst K dX11_isBarred_0 (v := (nI 0)) (by decide) ?_
  refine jr_istore_n K (L' := [some (.ref this), some (.int p1), some (.int (nI 0)), none, none]) dX11_isBarred_1 (by decide) rfl rfl ?_
  refine jr_iconst K dX11_isBarred_2 (v := (nI 0)) (by decide) ?_
  refine jr_istore_n K (L' := [some (.ref this), some (.int p1), some (.int (nI 0)), some (.int (nI 0)), none]) dX11_isBarred_3 (by decide) rfl rfl ?_
  refine jr_ex (fun n4 => ?_)
  refine jr_weak (wX11_isBarred_4 K bc bs this p1 Qj hret n4 (nI 0) (nI 0)) ⟨rfl, rfl, rfl, rfl, trivial⟩
theorem metX11_isBarred (hG : jG l D S0 A0) (this : Nat) (p1 : Int32) (Qj : Int32 → JP) : Met l yX11_isBarred (ws_ yX11_isBarred cX11_isBarred 5 (some .boolean)) (jrm 13 0 0) (va_Pc [.ref this, .int p1] (jB D S0 (JX11_isBarred this p1 Qj))) (va_Qi Qj (fun σ t => jRep D S0.heap.size σ t.heap) (jA S0)) 0 0 (jA S0) :=
  jr_start hG (by decide) (Nat.le_of_ble_eq_true rfl) rfl fun p e s m below meth c K hr hn => wX11_isBarred K _ _ this p1 Qj (fun _ _ _ _ _ d => jr_zret K hr d)
theorem wX11_isLongEnough_34 (K : JK p l R s m args meth c D S0 A0 4 cX11_isLongEnough "MoveNotesModel" 12) (bc bs : Nat) (this : Nat) (p1 : Int32) (Qj : Int32 → JP) (hret : jRetZ p l e R s m args below meth c Q D S0 4 cX11_isLongEnough Qj) : ∀ (n : Nat) (x2_34 : Int32) (x3_34 : Int32), JR p l e R s m args below meth c Q D S0 4 bc bs (jit (FX11_isLongEnough_34 this p1 Qj) (fun _ _ => jbot) n x2_34 x3_34) 34 [some (.ref this), some (.int p1), some (.int x2_34), some (.int x3_34)] [] := by
  intro n
  induction n with
  | zero =>
    intro x2_34 x3_34
    exact JR.bot
  | succ n ih34 =>
    intro x2_34 x3_34
    show JR p l e R s m args below meth c Q D S0 4 bc bs (FX11_isLongEnough_34 this p1 Qj (jit (FX11_isLongEnough_34 this p1 Qj) (fun _ _ => jbot) n) x2_34 x3_34) 34 [some (.ref this), some (.int p1), some (.int x2_34), some (.int x3_34)] []
    generalize jit (FX11_isLongEnough_34 this p1 Qj) (fun _ _ => jbot) n = rec34 at ih34 ⊢
    unfold FX11_isLongEnough_34
    refine jr_iload_n K dX11_isLongEnough_34 rfl ?_
    refine jr_aload_n K dX11_isLongEnough_35 rfl ?_
    refine jr_getA K gf_X11_13 dX11_isLongEnough_36 (fun v36 => ?_)
    refine jr_iconst K dX11_isLongEnough_39 (v := (nI 2)) (by decide) ?_
    refine jr_iald K dX11_isLongEnough_40 (fun v40 => ?_)
    refine jr_icmp_ge K (tgt := 83) dX11_isLongEnough_41 (by decide) ?_ ?_
    · refine jr_iload_n K dX11_isLongEnough_83 rfl ?_
      exact hret _ _ _ _ _ dX11_isLongEnough_84
    · refine jr_aload_n K dX11_isLongEnough_44 rfl ?_
      refine jr_getI K gf_X11_359 dX11_isLongEnough_45 (fun v45 => ?_)
      refine jr_if_ne K (tgt := 83) dX11_isLongEnough_48 (by decide) ?_ ?_
      · refine jr_iload_n K dX11_isLongEnough_83 rfl ?_
        exact hret _ _ _ _ _ dX11_isLongEnough_84
      · refine jr_iload_n K dX11_isLongEnough_51 rfl ?_
        refine jr_join (fun (k76 : Int32 → JP) => ∀ (s0_76 : Int32), JR p l e R s m args below meth c Q D S0 4 bc bs (k76 s0_76) 76 [some (.ref this), some (.int p1), none, some (.int x3_34)] [.int s0_76]) ?_ (fun k76 hk76 => ?_)
        · intro s0_76
          refine jr_istore_n K (L' := [some (.ref this), some (.int p1), some (.int s0_76), some (.int x3_34)]) dX11_isLongEnough_76 (by decide) rfl rfl ?_
          refine jr_iinc K (v := (x3_34 + (nI 1))) (L' := [some (.ref this), some (.int p1), some (.int s0_76), some (.int (x3_34 + (nI 1)))]) dX11_isLongEnough_77 rfl rfl (by decide) rfl rfl ?_
          refine jr_goto K (tgt := 34) dX11_isLongEnough_80 (by decide) ?_
          exact jr_weak (ih34 s0_76 (x3_34 + (nI 1))) ⟨rfl, rfl, rfl, rfl, trivial⟩
        refine jr_join (fun (k75 : JP) => JR p l e R s m args below meth c Q D S0 4 bc bs k75 75 [some (.ref this), some (.int p1), none, some (.int x3_34)] []) ?_ (fun k75 hk75 => ?_)
        · refine jr_iconst K dX11_isLongEnough_75 (v := (nI 0)) (by decide) ?_
          exact jr_weak (hk76 (nI 0)) ⟨rfl, rfl, rfl, trivial⟩
        refine jr_if_eq K (tgt := 75) dX11_isLongEnough_52 (by decide) ?_ ?_
        · exact jr_weak (hk75) ⟨rfl, rfl, rfl, trivial⟩
        · refine jr_aload_n K dX11_isLongEnough_55 rfl ?_
          refine jr_getA K gf_X11_13 dX11_isLongEnough_56 (fun v56 => ?_)
          refine jr_sipush K dX11_isLongEnough_59 (v := (nI 413)) (by decide) ?_
          refine jr_iconst K dX11_isLongEnough_62 (v := (nI 3)) (by decide) ?_
          refine jr_iload_n K dX11_isLongEnough_63 rfl ?_
          refine jr_imul K dX11_isLongEnough_64 ?_
          refine jr_iadd K dX11_isLongEnough_65 ?_
          refine jr_iald K dX11_isLongEnough_66 (fun v66 => ?_)
          refine jr_iload_n K dX11_isLongEnough_67 rfl ?_
          refine jr_icmp_gt K (tgt := 75) dX11_isLongEnough_68 (by decide) ?_ ?_
          · exact jr_weak (hk75) ⟨rfl, rfl, rfl, trivial⟩
          · refine jr_iconst K dX11_isLongEnough_71 (v := (nI 1)) (by decide) ?_
            refine jr_goto K (tgt := 76) dX11_isLongEnough_72 (by decide) ?_
            exact jr_weak (hk76 (nI 1)) ⟨rfl, rfl, rfl, trivial⟩
theorem wX11_isLongEnough (K : JK p l R s m args meth c D S0 A0 4 cX11_isLongEnough "MoveNotesModel" 12) (bc bs : Nat) (this : Nat) (p1 : Int32) (Qj : Int32 → JP) (hret : jRetZ p l e R s m args below meth c Q D S0 4 cX11_isLongEnough Qj) : JR p l e R s m args below meth c Q D S0 4 bc bs (JX11_isLongEnough this p1 Qj) 0 [some (.ref this), some (.int p1), none, none] [] := by
  unfold JX11_isLongEnough
  refine jr_aload_n K dX11_isLongEnough_0 rfl ?_
  refine jr_getI K gf_X11_359 dX11_isLongEnough_1 (fun v1 => ?_)
  refine jr_join (fun (k31 : Int32 → JP) => ∀ (s0_31 : Int32), JR p l e R s m args below meth c Q D S0 4 bc bs (k31 s0_31) 31 [some (.ref this), some (.int p1), none, none] [.int s0_31]) ?_ (fun k31 hk31 => ?_)
  · intro s0_31
    refine jr_istore_n K (L' := [some (.ref this), some (.int p1), some (.int s0_31), none]) dX11_isLongEnough_31 (by decide) rfl rfl ?_
    refine jr_iconst K dX11_isLongEnough_32 (v := (nI 0)) (by decide) ?_
    refine jr_istore_n K (L' := [some (.ref this), some (.int p1), some (.int s0_31), some (.int (nI 0))]) dX11_isLongEnough_33 (by decide) rfl rfl ?_
    refine jr_ex (fun n34 => ?_)
    refine jr_weak (wX11_isLongEnough_34 K bc bs this p1 Qj hret n34 s0_31 (nI 0)) ⟨rfl, rfl, rfl, rfl, trivial⟩
  refine jr_join (fun (k26 : JP) => JR p l e R s m args below meth c Q D S0 4 bc bs k26 26 [some (.ref this), some (.int p1), none, none] []) ?_ (fun k26 hk26 => ?_)
  · refine jr_iconst K dX11_isLongEnough_26 (v := (nI 1)) (by decide) ?_
    refine jr_goto K (tgt := 31) dX11_isLongEnough_27 (by decide) ?_
    exact jr_weak (hk31 (nI 1)) ⟨rfl, rfl, trivial⟩
  refine jr_if_ne K (tgt := 26) dX11_isLongEnough_4 (by decide) ?_ ?_
  · exact jr_weak (hk26) ⟨rfl, rfl, trivial⟩
  · refine jr_aload_n K dX11_isLongEnough_7 rfl ?_
    refine jr_getA K gf_X11_13 dX11_isLongEnough_8 (fun v8 => ?_)
    refine jr_iconst K dX11_isLongEnough_11 (v := (nI 3)) (by decide) ?_
    refine jr_iald K dX11_isLongEnough_12 (fun v12 => ?_)
    refine jr_if_lt K (tgt := 26) dX11_isLongEnough_13 (by decide) ?_ ?_
    · exact jr_weak (hk26) ⟨rfl, rfl, trivial⟩
    · refine jr_aload_n K dX11_isLongEnough_16 rfl ?_
      refine jr_getA K gf_X11_13 dX11_isLongEnough_17 (fun v17 => ?_)
      refine jr_iconst K dX11_isLongEnough_20 (v := (nI 3)) (by decide) ?_
      refine jr_iald K dX11_isLongEnough_21 (fun v21 => ?_)
      refine jr_iload_n K dX11_isLongEnough_22 rfl ?_
      refine jr_icmp_ne K (tgt := 30) dX11_isLongEnough_23 (by decide) ?_ ?_
      · refine jr_iconst K dX11_isLongEnough_30 (v := (nI 0)) (by decide) ?_
        exact jr_weak (hk31 (nI 0)) ⟨rfl, rfl, trivial⟩
      · exact jr_weak (hk26) ⟨rfl, rfl, trivial⟩
theorem metX11_isLongEnough (hG : jG l D S0 A0) (this : Nat) (p1 : Int32) (Qj : Int32 → JP) : Met l yX11_isLongEnough (ws_ yX11_isLongEnough cX11_isLongEnough 4 (some .boolean)) (jrm 12 0 0) (va_Pc [.ref this, .int p1] (jB D S0 (JX11_isLongEnough this p1 Qj))) (va_Qi Qj (fun σ t => jRep D S0.heap.size σ t.heap) (jA S0)) 0 0 (jA S0) :=
  jr_start hG (by decide) (Nat.le_of_ble_eq_true rfl) rfl fun p e s m below meth c K hr hn => wX11_isLongEnough K _ _ this p1 Qj (fun _ _ _ _ _ d => jr_zret K hr d)
theorem wX11_takes_2 (K : JK p l R s m args meth c D S0 A0 4 cX11_takes "MoveNotesModel" 12) (bc bs : Nat) (this : Nat) (p1 : Nat) (p2 : Int32) (Qj : Int32 → JP) (hret : jRetI p l e R s m args below meth c Q D S0 4 cX11_takes Qj) : ∀ (n : Nat) (x3_2 : Int32), JR p l e R s m args below meth c Q D S0 4 bc bs (jit (FX11_takes_2 this p1 p2 Qj) (fun _ => jbot) n x3_2) 2 [some (.ref this), some (.ref p1), some (.int p2), some (.int x3_2)] [] := by
  intro n
  induction n with
  | zero =>
    intro x3_2
    exact JR.bot
  | succ n ih2 =>
    intro x3_2
    show JR p l e R s m args below meth c Q D S0 4 bc bs (FX11_takes_2 this p1 p2 Qj (jit (FX11_takes_2 this p1 p2 Qj) (fun _ => jbot) n) x3_2) 2 [some (.ref this), some (.ref p1), some (.int p2), some (.int x3_2)] []
    generalize jit (FX11_takes_2 this p1 p2 Qj) (fun _ => jbot) n = rec2 at ih2 ⊢
    unfold FX11_takes_2
    refine jr_iload_n K dX11_takes_2 rfl ?_
    refine jr_iload_n K dX11_takes_3 rfl ?_
    refine jr_icmp_ge K (tgt := 22) dX11_takes_4 (by decide) ?_ ?_
    · refine jr_iload_n K dX11_takes_22 rfl ?_
      exact hret _ _ _ _ _ dX11_takes_23
    · refine jr_aload_n K dX11_takes_7 rfl ?_
      refine jr_iload_n K dX11_takes_8 rfl ?_
      refine jr_aload_n K dX11_takes_9 rfl ?_
      refine jr_getA K gf_X11_53 dX11_takes_10 (fun v10 => ?_)
      refine jr_iload_n K dX11_takes_13 rfl ?_
      refine jr_iald K dX11_takes_14 (fun v14 => ?_)
      refine jr_iast K dX11_takes_15 ?_
      refine jr_iinc K (v := (x3_2 + (nI 1))) (L' := [some (.ref this), some (.ref p1), some (.int p2), some (.int (x3_2 + (nI 1)))]) dX11_takes_16 rfl rfl (by decide) rfl rfl ?_
      refine jr_goto K (tgt := 2) dX11_takes_19 (by decide) ?_
      exact jr_weak (ih2 (x3_2 + (nI 1))) ⟨rfl, rfl, rfl, rfl, trivial⟩
theorem wX11_takes (K : JK p l R s m args meth c D S0 A0 4 cX11_takes "MoveNotesModel" 12) (bc bs : Nat) (this : Nat) (p1 : Nat) (p2 : Int32) (Qj : Int32 → JP) (hret : jRetI p l e R s m args below meth c Q D S0 4 cX11_takes Qj) : JR p l e R s m args below meth c Q D S0 4 bc bs (JX11_takes this p1 p2 Qj) 0 [some (.ref this), some (.ref p1), some (.int p2), none] [] := by
  unfold JX11_takes
  refine jr_iconst K dX11_takes_0 (v := (nI 0)) (by decide) ?_
  refine jr_istore_n K (L' := [some (.ref this), some (.ref p1), some (.int p2), some (.int (nI 0))]) dX11_takes_1 (by decide) rfl rfl ?_
  refine jr_ex (fun n2 => ?_)
  refine jr_weak (wX11_takes_2 K bc bs this p1 p2 Qj hret n2 (nI 0)) ⟨rfl, rfl, rfl, rfl, trivial⟩
theorem metX11_takes (hG : jG l D S0 A0) (this : Nat) (p1 : Nat) (p2 : Int32) (Qj : Int32 → JP) : Met l yX11_takes (ws_ yX11_takes cX11_takes 4 (some .int)) (jrm 12 0 0) (va_Pc [.ref this, .ref p1, .int p2] (jB D S0 (JX11_takes this p1 p2 Qj))) (va_Qi Qj (fun σ t => jRep D S0.heap.size σ t.heap) (jA S0)) 0 0 (jA S0) :=
  jr_start hG (by decide) (Nat.le_of_ble_eq_true rfl) rfl fun p e s m below meth c K hr hn => wX11_takes K _ _ this p1 p2 Qj (fun _ _ _ _ _ d => jr_iret K hr rfl d)
theorem wX11_meets (K : JK p l R s m args meth c D S0 A0 3 cX11_meets "MoveNotesModel" 14) (bc bs : Nat) (this : Nat) (p1 : Int32) (p2 : Int32) (Qj : JP) (hret : jRetV p l e R s m args below meth c Q D S0 3 cX11_meets Qj) : JR p l e R s m args below meth c Q D S0 3 bc bs (JX11_meets this p1 p2 Qj) 0 [some (.ref this), some (.int p1), some (.int p2)] [] := by
  unfold JX11_meets
  refine jr_aload_n K dX11_meets_0 rfl ?_
  refine jr_getI K gf_X11_350 dX11_meets_1 (fun v1 => ?_)
  refine jr_iload_n K dX11_meets_4 rfl ?_
  refine jr_icmp_gt K (tgt := 24) dX11_meets_5 (by decide) ?_ ?_
  · exact hret _ _ _ _ dX11_meets_24
  · refine jr_aload_n K dX11_meets_8 rfl ?_
    refine jr_iload_n K dX11_meets_9 rfl ?_
    refine jr_calli0 (jrun_V (As := [.int p1]) (st := []) (ci := 11) K (metX11_isBarred K.hG this p1 _) mtX11_isBarred mvX11_isBarred q1963 rfl rfl rfl (Nat.le_of_ble_eq_true rfl) (by decide) ⟨Nat.zero_le _, Nat.zero_le _⟩ dX11_meets_10) (fun v10 => ?_)
    refine jr_if_ne K (tgt := 24) dX11_meets_13 (by decide) ?_ ?_
    · exact hret _ _ _ _ dX11_meets_24
    · refine jr_aload_n K dX11_meets_16 rfl ?_
      refine jr_iload_n K dX11_meets_17 rfl ?_
      refine jr_calli0 (jrun_V (As := [.int p1]) (st := []) (ci := 11) K (metX11_isLongEnough K.hG this p1 _) mtX11_isLongEnough mvX11_isLongEnough q1967 rfl rfl rfl (Nat.le_of_ble_eq_true rfl) (by decide) ⟨Nat.zero_le _, Nat.zero_le _⟩ dX11_meets_18) (fun v18 => ?_)
      refine jr_if_ne K (tgt := 25) dX11_meets_21 (by decide) ?_ ?_
      · refine jr_aload_n K dX11_meets_25 rfl ?_
        refine jr_getA K gf_X11_68 dX11_meets_26 (fun v26 => ?_)
        refine jr_aload_n K dX11_meets_29 rfl ?_
        refine jr_getI K gf_X11_350 dX11_meets_30 (fun v30 => ?_)
        refine jr_dup2 K dX11_meets_33 rfl rfl ?_
        refine jr_lald K dX11_meets_34 (fun v34 => ?_)
        refine jr_lconst K dX11_meets_35 (v := (lN 1)) rfl ?_
        refine jr_ladd K dX11_meets_36 ?_
        refine jr_last K dX11_meets_37 ?_
        refine jr_aload_n K dX11_meets_38 rfl ?_
        refine jr_getI K gf_X11_368 dX11_meets_39 (fun v39 => ?_)
        refine jr_iload_n K dX11_meets_42 rfl ?_
        refine jr_join (fun (k75 : JP) => JR p l e R s m args below meth c Q D S0 3 bc bs k75 75 [some (.ref this), some (.int p1), none] []) ?_ (fun k75 hk75 => ?_)
        · refine jr_aload_n K dX11_meets_75 rfl ?_
          refine jr_dup K dX11_meets_76 rfl ?_
          refine jr_getI K gf_X11_374 dX11_meets_77 (fun v77 => ?_)
          refine jr_iconst K dX11_meets_80 (v := (nI 1)) (by decide) ?_
          refine jr_iadd K dX11_meets_81 ?_
          refine jr_put K pf_X11_374 dX11_meets_82 rfl rfl ?_
          refine jr_aload_n K dX11_meets_85 rfl ?_
          refine jr_getI K gf_X11_374 dX11_meets_86 (fun v86 => ?_)
          refine jr_iconst K dX11_meets_89 (v := (nI 1)) (by decide) ?_
          refine jr_join (fun (k106 : JP) => JR p l e R s m args below meth c Q D S0 3 bc bs k106 106 [some (.ref this), some (.int p1), none] []) ?_ (fun k106 hk106 => ?_)
          · refine jr_aload_n K dX11_meets_106 rfl ?_
            refine jr_getI K gf_X11_374 dX11_meets_107 (fun v107 => ?_)
            refine jr_iconst K dX11_meets_110 (v := (nI 2)) (by decide) ?_
            refine jr_join (fun (k127 : JP) => JR p l e R s m args below meth c Q D S0 3 bc bs k127 127 [some (.ref this), some (.int p1), none] []) ?_ (fun k127 hk127 => ?_)
            · refine jr_aload_n K dX11_meets_127 rfl ?_
              refine jr_getI K gf_X11_374 dX11_meets_128 (fun v128 => ?_)
              refine jr_sipush K dX11_meets_131 (v := (nI 200)) (by decide) ?_
              refine jr_icmp_gt K (tgt := 158) dX11_meets_134 (by decide) ?_ ?_
              · exact hret _ _ _ _ dX11_meets_158
              · refine jr_aload_n K dX11_meets_137 rfl ?_
                refine jr_getI K gf_X11_374 dX11_meets_138 (fun v138 => ?_)
                refine jr_iconst K dX11_meets_141 (v := (nI 1)) (by decide) ?_
                refine jr_join (fun (k159 : JP) => JR p l e R s m args below meth c Q D S0 3 bc bs k159 159 [some (.ref this), some (.int p1), none] []) ?_ (fun k159 hk159 => ?_)
                · refine jr_aload_n K dX11_meets_159 rfl ?_
                  refine jr_aload_n K dX11_meets_160 rfl ?_
                  refine jr_aload_n K dX11_meets_161 rfl ?_
                  refine jr_getA K gf_X11_81 dX11_meets_162 (fun v162 => ?_)
                  refine jr_iload_n K dX11_meets_165 rfl ?_
                  refine jr_calli0 (jrun_V (As := [.ref v162, .int p1]) (st := [.ref this]) (ci := 11) K (metX11_takes K.hG this v162 p1 _) mtX11_takes mvX11_takes q1971 rfl rfl rfl (Nat.le_of_ble_eq_true rfl) (by decide) ⟨Nat.zero_le _, Nat.zero_le _⟩ dX11_meets_166) (fun v166 => ?_)
                  refine jr_put K pf_X11_389 dX11_meets_169 rfl rfl ?_
                  refine jr_aload_n K dX11_meets_172 rfl ?_
                  refine jr_aload_n K dX11_meets_173 rfl ?_
                  refine jr_getA K gf_X11_84 dX11_meets_174 (fun v174 => ?_)
                  refine jr_iload_n K dX11_meets_177 rfl ?_
                  refine jr_iald K dX11_meets_178 (fun v178 => ?_)
                  refine jr_put K pf_X11_386 dX11_meets_179 rfl rfl ?_
                  exact hret _ _ _ _ dX11_meets_182
                refine jr_icmp_le K (tgt := 159) dX11_meets_142 (by decide) ?_ ?_
                · exact jr_weak (hk159) ⟨rfl, rfl, trivial⟩
                · refine jr_aload_n K dX11_meets_145 rfl ?_
                  refine jr_getA K gf_X11_84 dX11_meets_146 (fun v146 => ?_)
                  refine jr_iload_n K dX11_meets_149 rfl ?_
                  refine jr_iald K dX11_meets_150 (fun v150 => ?_)
                  refine jr_aload_n K dX11_meets_151 rfl ?_
                  refine jr_getI K gf_X11_386 dX11_meets_152 (fun v152 => ?_)
                  refine jr_icmp_lt K (tgt := 159) dX11_meets_155 (by decide) ?_ ?_
                  · exact jr_weak (hk159) ⟨rfl, rfl, trivial⟩
                  · exact hret _ _ _ _ dX11_meets_158
            refine jr_icmp_ne K (tgt := 127) dX11_meets_111 (by decide) ?_ ?_
            · exact jr_weak (hk127) ⟨rfl, rfl, trivial⟩
            · refine jr_aload_n K dX11_meets_114 rfl ?_
              refine jr_aload_n K dX11_meets_115 rfl ?_
              refine jr_aload_n K dX11_meets_116 rfl ?_
              refine jr_getA K gf_X11_78 dX11_meets_117 (fun v117 => ?_)
              refine jr_iload_n K dX11_meets_120 rfl ?_
              refine jr_calli0 (jrun_V (As := [.ref v117, .int p1]) (st := [.ref this]) (ci := 11) K (metX11_takes K.hG this v117 p1 _) mtX11_takes mvX11_takes q1971 rfl rfl rfl (Nat.le_of_ble_eq_true rfl) (by decide) ⟨Nat.zero_le _, Nat.zero_le _⟩ dX11_meets_121) (fun v121 => ?_)
              refine jr_put K pf_X11_383 dX11_meets_124 rfl rfl ?_
              exact jr_weak (hk127) ⟨rfl, rfl, trivial⟩
          refine jr_icmp_ne K (tgt := 106) dX11_meets_90 (by decide) ?_ ?_
          · exact jr_weak (hk106) ⟨rfl, rfl, trivial⟩
          · refine jr_aload_n K dX11_meets_93 rfl ?_
            refine jr_aload_n K dX11_meets_94 rfl ?_
            refine jr_aload_n K dX11_meets_95 rfl ?_
            refine jr_getA K gf_X11_75 dX11_meets_96 (fun v96 => ?_)
            refine jr_iload_n K dX11_meets_99 rfl ?_
            refine jr_calli0 (jrun_V (As := [.ref v96, .int p1]) (st := [.ref this]) (ci := 11) K (metX11_takes K.hG this v96 p1 _) mtX11_takes mvX11_takes q1971 rfl rfl rfl (Nat.le_of_ble_eq_true rfl) (by decide) ⟨Nat.zero_le _, Nat.zero_le _⟩ dX11_meets_100) (fun v100 => ?_)
            refine jr_put K pf_X11_380 dX11_meets_103 rfl rfl ?_
            exact jr_weak (hk106) ⟨rfl, rfl, trivial⟩
        refine jr_icmp_ge K (tgt := 75) dX11_meets_43 (by decide) ?_ ?_
        · exact jr_weak (hk75) ⟨rfl, rfl, trivial⟩
        · refine jr_aload_n K dX11_meets_46 rfl ?_
          refine jr_getA K gf_X11_53 dX11_meets_47 (fun v47 => ?_)
          refine jr_aload_n K dX11_meets_50 rfl ?_
          refine jr_getI K gf_X11_368 dX11_meets_51 (fun v51 => ?_)
          refine jr_iald K dX11_meets_54 (fun v54 => ?_)
          refine jr_aload_n K dX11_meets_55 rfl ?_
          refine jr_getI K gf_X11_371 dX11_meets_56 (fun v56 => ?_)
          refine jr_icmp_ne K (tgt := 75) dX11_meets_59 (by decide) ?_ ?_
          · exact jr_weak (hk75) ⟨rfl, rfl, trivial⟩
          · refine jr_aload_n K dX11_meets_62 rfl ?_
            refine jr_getA K gf_X11_72 dX11_meets_63 (fun v63 => ?_)
            refine jr_aload_n K dX11_meets_66 rfl ?_
            refine jr_getI K gf_X11_350 dX11_meets_67 (fun v67 => ?_)
            refine jr_dup2 K dX11_meets_70 rfl rfl ?_
            refine jr_lald K dX11_meets_71 (fun v71 => ?_)
            refine jr_lconst K dX11_meets_72 (v := (lN 1)) rfl ?_
            refine jr_ladd K dX11_meets_73 ?_
            refine jr_last K dX11_meets_74 ?_
            exact jr_weak (hk75) ⟨rfl, rfl, trivial⟩
      · exact hret _ _ _ _ dX11_meets_24
theorem metX11_meets (hG : jG l D S0 A0) (this : Nat) (p1 : Int32) (p2 : Int32) (Qj : JP) : Met l yX11_meets (ws_ yX11_meets cX11_meets 3 none) (jrm 14 0 0) (va_Pc [.ref this, .int p1, .int p2] (jB D S0 (JX11_meets this p1 p2 Qj))) (va_Qv Qj (fun σ t => jRep D S0.heap.size σ t.heap) (jA S0)) 0 0 (jA S0) :=
  jr_start hG (by decide) (Nat.le_of_ble_eq_true rfl) rfl fun p e s m below meth c K hr hn => wX11_meets K _ _ this p1 p2 Qj (fun _ _ _ _ d => jr_vret K hr d)
theorem wX11_goesOn (K : JK p l R s m args meth c D S0 A0 2 cX11_goesOn "MoveNotesModel" 14) (bc bs : Nat) (this : Nat) (p1 : Int32) (Qj : Int32 → JP) (hret : jRetZ p l e R s m args below meth c Q D S0 2 cX11_goesOn Qj) : JR p l e R s m args below meth c Q D S0 2 bc bs (JX11_goesOn this p1 Qj) 0 [some (.ref this), some (.int p1)] [] := by
  unfold JX11_goesOn
  refine jr_iload_n K dX11_goesOn_0 rfl ?_
  refine jr_bipush K dX11_goesOn_1 (v := (nI 30)) (by decide) ?_
  refine jr_join (fun (k35 : JP) => JR p l e R s m args below meth c Q D S0 2 bc bs k35 35 [none, none] []) ?_ (fun k35 hk35 => ?_)
  · refine jr_iconst K dX11_goesOn_35 (v := (nI 0)) (by decide) ?_
    exact JR.imp (fun _ h => ⟨Or.inl rfl, h⟩) (hret _ _ _ _ _ dX11_goesOn_36)
  refine jr_icmp_ge K (tgt := 35) dX11_goesOn_3 (by decide) ?_ ?_
  · exact jr_weak (hk35) trivial
  · refine jr_aload_n K dX11_goesOn_6 rfl ?_
    refine jr_getI K gf_X11_359 dX11_goesOn_7 (fun v7 => ?_)
    refine jr_join (fun (k23 : JP) => JR p l e R s m args below meth c Q D S0 2 bc bs k23 23 [some (.ref this), some (.int p1)] []) ?_ (fun k23 hk23 => ?_)
    · refine jr_aload_n K dX11_goesOn_23 rfl ?_
      refine jr_iload_n K dX11_goesOn_24 rfl ?_
      refine jr_calli0 (jrun_V (As := [.int p1]) (st := []) (ci := 11) K (metX11_isBarred K.hG this p1 _) mtX11_isBarred mvX11_isBarred q1963 rfl rfl rfl (Nat.le_of_ble_eq_true rfl) (by decide) ⟨Nat.zero_le _, Nat.zero_le _⟩ dX11_goesOn_25) (fun v25 => ?_)
      refine jr_if_ne K (tgt := 35) dX11_goesOn_28 (by decide) ?_ ?_
      · exact jr_weak (hk35) trivial
      · refine jr_iconst K dX11_goesOn_31 (v := (nI 1)) (by decide) ?_
        refine jr_goto K (tgt := 36) dX11_goesOn_32 (by decide) ?_
        exact JR.imp (fun _ h => ⟨Or.inr rfl, h⟩) (hret _ _ _ _ _ dX11_goesOn_36)
    refine jr_if_ne K (tgt := 23) dX11_goesOn_10 (by decide) ?_ ?_
    · exact jr_weak (hk23) ⟨rfl, rfl, trivial⟩
    · refine jr_aload_n K dX11_goesOn_13 rfl ?_
      refine jr_getA K gf_X11_13 dX11_goesOn_14 (fun v14 => ?_)
      refine jr_iconst K dX11_goesOn_17 (v := (nI 3)) (by decide) ?_
      refine jr_iald K dX11_goesOn_18 (fun v18 => ?_)
      refine jr_iload_n K dX11_goesOn_19 rfl ?_
      refine jr_icmp_eq K (tgt := 35) dX11_goesOn_20 (by decide) ?_ ?_
      · exact jr_weak (hk35) trivial
      · exact jr_weak (hk23) ⟨rfl, rfl, trivial⟩
theorem metX11_goesOn (hG : jG l D S0 A0) (this : Nat) (p1 : Int32) (Qj : Int32 → JP) : Met l yX11_goesOn (ws_ yX11_goesOn cX11_goesOn 2 (some .boolean)) (jrm 14 0 0) (va_Pc [.ref this, .int p1] (jB D S0 (JX11_goesOn this p1 Qj))) (va_Qi Qj (fun σ t => jRep D S0.heap.size σ t.heap) (jA S0)) 0 0 (jA S0) :=
  jr_start hG (by decide) (Nat.le_of_ble_eq_true rfl) rfl fun p e s m below meth c K hr hn => wX11_goesOn K _ _ this p1 Qj (fun _ _ _ _ _ d => jr_zret K hr d)
theorem wX11_lays (K : JK p l R s m args meth c D S0 A0 3 cX11_lays "MoveNotesModel" 18) (bc bs : Nat) (this : Nat) (p1 : Int32) (p2 : Int32) (Qj : JP) (hret : jRetV p l e R s m args below meth c Q D S0 3 cX11_lays Qj) : JR p l e R s m args below meth c Q D S0 3 bc bs (JX11_lays this p1 p2 Qj) 0 [some (.ref this), some (.int p1), some (.int p2)] [] := by
  unfold JX11_lays
  refine jr_aload_n K dX11_lays_0 rfl ?_
  refine jr_dup K dX11_lays_1 rfl ?_
  refine jr_getI K gf_X11_398 dX11_lays_2 (fun v2 => ?_)
  refine jr_iconst K dX11_lays_5 (v := (nI 1)) (by decide) ?_
  refine jr_iadd K dX11_lays_6 ?_
  refine jr_put K pf_X11_398 dX11_lays_7 rfl rfl ?_
  refine jr_aload_n K dX11_lays_10 rfl ?_
  refine jr_aload_n K dX11_lays_11 rfl ?_
  refine jr_getI K gf_X11_401 dX11_lays_12 (fun v12 => ?_)
  refine jr_join (fun (k33 : Int32 → JP) => ∀ (s1_33 : Int32), JR p l e R s m args below meth c Q D S0 3 bc bs (k33 s1_33) 33 [some (.ref this), some (.int p1), some (.int p2)] [.int s1_33, .ref this]) ?_ (fun k33 hk33 => ?_)
  · intro s1_33
    refine jr_putZ K pf_X11_401 dX11_lays_33 ?_
    refine jr_aload_n K dX11_lays_36 rfl ?_
    refine jr_aload_n K dX11_lays_37 rfl ?_
    refine jr_getI K gf_X11_404 dX11_lays_38 (fun v38 => ?_)
    refine jr_iload_n K dX11_lays_41 rfl ?_
    refine jr_max K q1942 (by decide) (Nat.le_of_ble_eq_true rfl) dX11_lays_42 ?_
    refine jr_put K pf_X11_404 dX11_lays_45 rfl rfl ?_
    refine jr_aload_n K dX11_lays_48 rfl ?_
    refine jr_iload_n K dX11_lays_49 rfl ?_
    refine jr_iload_n K dX11_lays_50 rfl ?_
    refine jr_iconst K dX11_lays_51 (v := (nI 2)) (by decide) ?_
    refine jr_irem K dX11_lays_52 (by decide) ?_
    refine jr_callv0 (jrun_V (As := [.int p1, .int (jrem p1 (nI 2))]) (st := []) (ci := 11) K (metX11_finds K.hG this p1 (jrem p1 (nI 2)) _) mtX11_finds mvX11_finds q1841 rfl rfl rfl (Nat.le_of_ble_eq_true rfl) (by decide) ⟨Nat.zero_le _, Nat.zero_le _⟩ dX11_lays_53) ?_
    refine jr_aload_n K dX11_lays_56 rfl ?_
    refine jr_iload_n K dX11_lays_57 rfl ?_
    refine jr_callv0 (jrun_V (As := [.int p1]) (st := []) (ci := 11) K (metX11_measures K.hG this p1 _) mtX11_measures mvX11_measures q1943 rfl rfl rfl (Nat.le_of_ble_eq_true rfl) (by decide) ⟨Nat.zero_le _, Nat.zero_le _⟩ dX11_lays_58) ?_
    refine jr_aload_n K dX11_lays_61 rfl ?_
    refine jr_iload_n K dX11_lays_62 rfl ?_
    refine jr_iload_n K dX11_lays_63 rfl ?_
    refine jr_callv0 (jrun_V (As := [.int p1, .int p2]) (st := []) (ci := 11) K (metX11_meets K.hG this p1 p2 _) mtX11_meets mvX11_meets q1959 rfl rfl rfl (Nat.le_of_ble_eq_true rfl) (by decide) ⟨Nat.zero_le _, Nat.zero_le _⟩ dX11_lays_64) ?_
    refine jr_aload_n K dX11_lays_67 rfl ?_
    refine jr_getA K gf_X11_65 dX11_lays_68 (fun v68 => ?_)
    refine jr_iload_n K dX11_lays_71 rfl ?_
    refine jr_aload_n K dX11_lays_72 rfl ?_
    refine jr_iload_n K dX11_lays_73 rfl ?_
    refine jr_calli0 (jrun_V (As := [.int p1]) (st := [.int p1, .ref v68]) (ci := 11) K (metX11_goesOn K.hG this p1 _) mtX11_goesOn mvX11_goesOn q1975 rfl rfl rfl (Nat.le_of_ble_eq_true rfl) (by decide) ⟨Nat.zero_le _, Nat.zero_le _⟩ dX11_lays_74) (fun v74 => ?_)
    refine jr_if_eq K (tgt := 84) dX11_lays_77 (by decide) ?_ ?_
    · refine jr_sipush K dX11_lays_84 (v := (nI 1296)) (by decide) ?_
      refine jr_iast K dX11_lays_87 ?_
      exact hret _ _ _ _ dX11_lays_88
    · refine jr_iconst K dX11_lays_80 (v := (nI 0)) (by decide) ?_
      refine jr_goto K (tgt := 87) dX11_lays_81 (by decide) ?_
      refine jr_iast K dX11_lays_87 ?_
      exact hret _ _ _ _ dX11_lays_88
  refine jr_join (fun (k28 : JP) => JR p l e R s m args below meth c Q D S0 3 bc bs k28 28 [some (.ref this), some (.int p1), some (.int p2)] [.ref this]) ?_ (fun k28 hk28 => ?_)
  · refine jr_iconst K dX11_lays_28 (v := (nI 1)) (by decide) ?_
    refine jr_goto K (tgt := 33) dX11_lays_29 (by decide) ?_
    exact jr_weak (hk33 (nI 1)) ⟨rfl, rfl, rfl, trivial⟩
  refine jr_if_ne K (tgt := 28) dX11_lays_15 (by decide) ?_ ?_
  · exact jr_weak (hk28) ⟨rfl, rfl, rfl, trivial⟩
  · refine jr_aload_n K dX11_lays_18 rfl ?_
    refine jr_getI K gf_X11_398 dX11_lays_19 (fun v19 => ?_)
    refine jr_sipush K dX11_lays_22 (v := (nI 8000)) (by decide) ?_
    refine jr_icmp_le K (tgt := 32) dX11_lays_25 (by decide) ?_ ?_
    · refine jr_iconst K dX11_lays_32 (v := (nI 0)) (by decide) ?_
      exact jr_weak (hk33 (nI 0)) ⟨rfl, rfl, rfl, trivial⟩
    · exact jr_weak (hk28) ⟨rfl, rfl, rfl, trivial⟩
theorem metX11_lays (hG : jG l D S0 A0) (this : Nat) (p1 : Int32) (p2 : Int32) (Qj : JP) : Met l yX11_lays (ws_ yX11_lays cX11_lays 3 none) (jrm 18 0 0) (va_Pc [.ref this, .int p1, .int p2] (jB D S0 (JX11_lays this p1 p2 Qj))) (va_Qv Qj (fun σ t => jRep D S0.heap.size σ t.heap) (jA S0)) 0 0 (jA S0) :=
  jr_start hG (by decide) (Nat.le_of_ble_eq_true rfl) rfl fun p e s m below meth c K hr hn => wX11_lays K _ _ this p1 p2 Qj (fun _ _ _ _ d => jr_vret K hr d)
theorem wX11_fits (K : JK p l R s m args meth c D S0 A0 9 cX11_fits "MoveNotesModel" 12) (bc bs : Nat) (p0 : Int32) (p1 : Int32) (p2 : Int32) (p3 : Int32) (p4 : Int32) (p5 : Int32) (p6 : Int32) (Qj : Int32 → JP) (hret : jRetZ p l e R s m args below meth c Q D S0 9 cX11_fits Qj) : JR p l e R s m args below meth c Q D S0 9 bc bs (JX11_fits p0 p1 p2 p3 p4 p5 p6 Qj) 0 [some (.int p0), some (.int p1), some (.int p2), some (.int p3), some (.int p4), some (.int p5), some (.int p6), none, none] [] := by
  unfold JX11_fits
  refine jr_iload_n K dX11_fits_0 rfl ?_
  refine jr_iload K dX11_fits_1 rfl ?_
  refine jr_join (fun (k11 : Int32 → JP) => ∀ (s0_11 : Int32), JR p l e R s m args below meth c Q D S0 9 bc bs (k11 s0_11) 11 [some (.int p0), some (.int p1), some (.int p2), some (.int p3), some (.int p4), some (.int p5), some (.int p6), none, none] [.int s0_11]) ?_ (fun k11 hk11 => ?_)
  · intro s0_11
    refine jr_istore K (L' := [some (.int p0), some (.int p1), some (.int p2), some (.int p3), some (.int p4), some (.int p5), some (.int p6), some (.int s0_11), none]) dX11_fits_11 (by decide) rfl rfl ?_
    refine jr_iload K dX11_fits_13 rfl ?_
    refine jr_iload K dX11_fits_15 rfl ?_
    refine jr_join (fun (k25 : Int32 → JP) => ∀ (s0_25 : Int32), JR p l e R s m args below meth c Q D S0 9 bc bs (k25 s0_25) 25 [some (.int p0), some (.int p1), some (.int p2), some (.int p3), some (.int p4), some (.int p5), some (.int p6), some (.int s0_11), none] [.int s0_25]) ?_ (fun k25 hk25 => ?_)
    · intro s0_25
      refine jr_istore K (L' := [some (.int p0), some (.int p1), some (.int p2), some (.int p3), some (.int p4), some (.int p5), some (.int p6), some (.int s0_11), some (.int s0_25)]) dX11_fits_25 (by decide) rfl rfl ?_
      refine jr_iload_n K dX11_fits_27 rfl ?_
      refine jr_sw (fun hsw0 => ?_) (fun hsw0 => ?_)
      · refine jr_tsIn K dX11_fits_28 hsw0 (off := 36) (tgt := 64) (by decide) (by decide) rfl (by decide) ?_
        refine jr_iload_n K dX11_fits_64 rfl ?_
        refine jr_join (fun (k86 : JP) => JR p l e R s m args below meth c Q D S0 9 bc bs k86 86 [none, none, none, none, none, none, none, none, none] []) ?_ (fun k86 hk86 => ?_)
        · refine jr_iconst K dX11_fits_86 (v := (nI 0)) (by decide) ?_
          exact JR.imp (fun _ h => ⟨Or.inl rfl, h⟩) (hret _ _ _ _ _ dX11_fits_87)
        refine jr_if_eq K (tgt := 86) dX11_fits_65 (by decide) ?_ ?_
        · exact jr_weak (hk86) trivial
        · refine jr_iload_n K dX11_fits_68 rfl ?_
          refine jr_if_eq K (tgt := 86) dX11_fits_69 (by decide) ?_ ?_
          · exact jr_weak (hk86) trivial
          · refine jr_iload K dX11_fits_72 rfl ?_
            refine jr_if_eq K (tgt := 86) dX11_fits_74 (by decide) ?_ ?_
            · exact jr_weak (hk86) trivial
            · refine jr_iload K dX11_fits_77 rfl ?_
              refine jr_if_eq K (tgt := 86) dX11_fits_79 (by decide) ?_ ?_
              · exact jr_weak (hk86) trivial
              · refine jr_iconst K dX11_fits_82 (v := (nI 1)) (by decide) ?_
                refine jr_goto K (tgt := 87) dX11_fits_83 (by decide) ?_
                exact JR.imp (fun _ h => ⟨Or.inr rfl, h⟩) (hret _ _ _ _ _ dX11_fits_87)
      refine jr_sw (fun hsw1 => ?_) (fun hsw1 => ?_)
      · refine jr_tsIn K dX11_fits_28 hsw1 (off := 60) (tgt := 88) (by decide) (by decide) rfl (by decide) ?_
        refine jr_iload_n K dX11_fits_88 rfl ?_
        refine jr_join (fun (k110 : JP) => JR p l e R s m args below meth c Q D S0 9 bc bs k110 110 [none, none, none, none, none, none, none, none, none] []) ?_ (fun k110 hk110 => ?_)
        · refine jr_iconst K dX11_fits_110 (v := (nI 0)) (by decide) ?_
          exact JR.imp (fun _ h => ⟨Or.inl rfl, h⟩) (hret _ _ _ _ _ dX11_fits_111)
        refine jr_if_ne K (tgt := 110) dX11_fits_89 (by decide) ?_ ?_
        · exact jr_weak (hk110) trivial
        · refine jr_iload_n K dX11_fits_92 rfl ?_
          refine jr_if_eq K (tgt := 110) dX11_fits_93 (by decide) ?_ ?_
          · exact jr_weak (hk110) trivial
          · refine jr_iload K dX11_fits_96 rfl ?_
            refine jr_if_eq K (tgt := 110) dX11_fits_98 (by decide) ?_ ?_
            · exact jr_weak (hk110) trivial
            · refine jr_iload K dX11_fits_101 rfl ?_
              refine jr_if_eq K (tgt := 110) dX11_fits_103 (by decide) ?_ ?_
              · exact jr_weak (hk110) trivial
              · refine jr_iconst K dX11_fits_106 (v := (nI 1)) (by decide) ?_
                refine jr_goto K (tgt := 111) dX11_fits_107 (by decide) ?_
                exact JR.imp (fun _ h => ⟨Or.inr rfl, h⟩) (hret _ _ _ _ _ dX11_fits_111)
      refine jr_sw (fun hsw2 => ?_) (fun hsw2 => ?_)
      · refine jr_tsIn K dX11_fits_28 hsw2 (off := 84) (tgt := 112) (by decide) (by decide) rfl (by decide) ?_
        refine jr_iload_n K dX11_fits_112 rfl ?_
        refine jr_join (fun (k140 : JP) => JR p l e R s m args below meth c Q D S0 9 bc bs k140 140 [none, none, none, none, none, none, none, none, none] []) ?_ (fun k140 hk140 => ?_)
        · refine jr_iconst K dX11_fits_140 (v := (nI 0)) (by decide) ?_
          exact JR.imp (fun _ h => ⟨Or.inl rfl, h⟩) (hret _ _ _ _ _ dX11_fits_141)
        refine jr_if_eq K (tgt := 140) dX11_fits_113 (by decide) ?_ ?_
        · exact jr_weak (hk140) trivial
        · refine jr_iload_n K dX11_fits_116 rfl ?_
          refine jr_if_eq K (tgt := 140) dX11_fits_117 (by decide) ?_ ?_
          · exact jr_weak (hk140) trivial
          · refine jr_iload_n K dX11_fits_120 rfl ?_
            refine jr_iload K dX11_fits_121 rfl ?_
            refine jr_isub K dX11_fits_123 ?_
            refine jr_abs K q1990 (by decide) (Nat.le_of_ble_eq_true rfl) dX11_fits_124 ?_
            refine jr_iconst K dX11_fits_127 (v := (nI 1)) (by decide) ?_
            refine jr_icmp_ne K (tgt := 140) dX11_fits_128 (by decide) ?_ ?_
            · exact jr_weak (hk140) trivial
            · refine jr_iload K dX11_fits_131 rfl ?_
              refine jr_if_eq K (tgt := 140) dX11_fits_133 (by decide) ?_ ?_
              · exact jr_weak (hk140) trivial
              · refine jr_iconst K dX11_fits_136 (v := (nI 1)) (by decide) ?_
                refine jr_goto K (tgt := 141) dX11_fits_137 (by decide) ?_
                exact JR.imp (fun _ h => ⟨Or.inr rfl, h⟩) (hret _ _ _ _ _ dX11_fits_141)
      refine jr_sw (fun hsw3 => ?_) (fun hsw3 => ?_)
      · refine jr_tsIn K dX11_fits_28 hsw3 (off := 114) (tgt := 142) (by decide) (by decide) rfl (by decide) ?_
        refine jr_iload_n K dX11_fits_142 rfl ?_
        refine jr_join (fun (k171 : JP) => JR p l e R s m args below meth c Q D S0 9 bc bs k171 171 [none, none, none, none, none, none, none, none, none] []) ?_ (fun k171 hk171 => ?_)
        · refine jr_iconst K dX11_fits_171 (v := (nI 0)) (by decide) ?_
          exact JR.imp (fun _ h => ⟨Or.inl rfl, h⟩) (hret _ _ _ _ _ dX11_fits_172)
        refine jr_if_eq K (tgt := 171) dX11_fits_143 (by decide) ?_ ?_
        · exact jr_weak (hk171) trivial
        · refine jr_iload_n K dX11_fits_146 rfl ?_
          refine jr_if_eq K (tgt := 171) dX11_fits_147 (by decide) ?_ ?_
          · exact jr_weak (hk171) trivial
          · refine jr_iload K dX11_fits_150 rfl ?_
            refine jr_if_eq K (tgt := 171) dX11_fits_152 (by decide) ?_ ?_
            · exact jr_weak (hk171) trivial
            · refine jr_iload K dX11_fits_155 rfl ?_
              refine jr_iload K dX11_fits_157 rfl ?_
              refine jr_isub K dX11_fits_159 ?_
              refine jr_abs K q1990 (by decide) (Nat.le_of_ble_eq_true rfl) dX11_fits_160 ?_
              refine jr_iconst K dX11_fits_163 (v := (nI 1)) (by decide) ?_
              refine jr_icmp_ne K (tgt := 171) dX11_fits_164 (by decide) ?_ ?_
              · exact jr_weak (hk171) trivial
              · refine jr_iconst K dX11_fits_167 (v := (nI 1)) (by decide) ?_
                refine jr_goto K (tgt := 172) dX11_fits_168 (by decide) ?_
                exact JR.imp (fun _ h => ⟨Or.inr rfl, h⟩) (hret _ _ _ _ _ dX11_fits_172)
      refine jr_sw (fun hsw4 => ?_) (fun hsw4 => ?_)
      · refine jr_tsIn K dX11_fits_28 hsw4 (off := 145) (tgt := 173) (by decide) (by decide) rfl (by decide) ?_
        refine jr_iload_n K dX11_fits_173 rfl ?_
        refine jr_join (fun (k204 : JP) => JR p l e R s m args below meth c Q D S0 9 bc bs k204 204 [none, none, none, none, none, none, none, none, none] []) ?_ (fun k204 hk204 => ?_)
        · refine jr_iconst K dX11_fits_204 (v := (nI 0)) (by decide) ?_
          exact JR.imp (fun _ h => ⟨Or.inl rfl, h⟩) (hret _ _ _ _ _ dX11_fits_205)
        refine jr_if_eq K (tgt := 204) dX11_fits_174 (by decide) ?_ ?_
        · exact jr_weak (hk204) trivial
        · refine jr_iload_n K dX11_fits_177 rfl ?_
          refine jr_if_eq K (tgt := 204) dX11_fits_178 (by decide) ?_ ?_
          · exact jr_weak (hk204) trivial
          · refine jr_iload K dX11_fits_181 rfl ?_
            refine jr_if_eq K (tgt := 204) dX11_fits_183 (by decide) ?_ ?_
            · exact jr_weak (hk204) trivial
            · refine jr_iload K dX11_fits_186 rfl ?_
              refine jr_if_ne K (tgt := 204) dX11_fits_188 (by decide) ?_ ?_
              · exact jr_weak (hk204) trivial
              · refine jr_iconst K dX11_fits_191 (v := (nI 5)) (by decide) ?_
                refine jr_iload K dX11_fits_192 rfl ?_
                refine jr_isub K dX11_fits_194 ?_
                refine jr_iload K dX11_fits_195 rfl ?_
                refine jr_icmp_ne K (tgt := 204) dX11_fits_197 (by decide) ?_ ?_
                · exact jr_weak (hk204) trivial
                · refine jr_iconst K dX11_fits_200 (v := (nI 1)) (by decide) ?_
                  refine jr_goto K (tgt := 205) dX11_fits_201 (by decide) ?_
                  exact JR.imp (fun _ h => ⟨Or.inr rfl, h⟩) (hret _ _ _ _ _ dX11_fits_205)
      refine jr_tsOut K dX11_fits_28 (tgt := 206) (jsw_out (n := 5) [(nI 0), (nI 1), (nI 2), (nI 3), (nI 4)] (by decide) (by decide) (by decide) ⟨hsw0, hsw1, hsw2, hsw3, hsw4, trivial⟩) (by decide) ?_
      refine jr_iload_n K dX11_fits_206 rfl ?_
      refine jr_join (fun (k228 : JP) => JR p l e R s m args below meth c Q D S0 9 bc bs k228 228 [none, none, none, none, none, none, none, none, none] []) ?_ (fun k228 hk228 => ?_)
      · refine jr_iconst K dX11_fits_228 (v := (nI 0)) (by decide) ?_
        exact JR.imp (fun _ h => ⟨Or.inl rfl, h⟩) (hret _ _ _ _ _ dX11_fits_229)
      refine jr_if_eq K (tgt := 228) dX11_fits_207 (by decide) ?_ ?_
      · exact jr_weak (hk228) trivial
      · refine jr_iload_n K dX11_fits_210 rfl ?_
        refine jr_if_ne K (tgt := 228) dX11_fits_211 (by decide) ?_ ?_
        · exact jr_weak (hk228) trivial
        · refine jr_iload K dX11_fits_214 rfl ?_
          refine jr_if_eq K (tgt := 228) dX11_fits_216 (by decide) ?_ ?_
          · exact jr_weak (hk228) trivial
          · refine jr_iload K dX11_fits_219 rfl ?_
            refine jr_if_eq K (tgt := 228) dX11_fits_221 (by decide) ?_ ?_
            · exact jr_weak (hk228) trivial
            · refine jr_iconst K dX11_fits_224 (v := (nI 1)) (by decide) ?_
              refine jr_goto K (tgt := 229) dX11_fits_225 (by decide) ?_
              exact JR.imp (fun _ h => ⟨Or.inr rfl, h⟩) (hret _ _ _ _ _ dX11_fits_229)
    refine jr_icmp_ne K (tgt := 24) dX11_fits_17 (by decide) ?_ ?_
    · refine jr_iconst K dX11_fits_24 (v := (nI 0)) (by decide) ?_
      exact jr_weak (hk25 (nI 0)) ⟨rfl, rfl, rfl, rfl, rfl, rfl, rfl, rfl, trivial⟩
    · refine jr_iconst K dX11_fits_20 (v := (nI 1)) (by decide) ?_
      refine jr_goto K (tgt := 25) dX11_fits_21 (by decide) ?_
      exact jr_weak (hk25 (nI 1)) ⟨rfl, rfl, rfl, rfl, rfl, rfl, rfl, rfl, trivial⟩
  refine jr_icmp_ne K (tgt := 10) dX11_fits_3 (by decide) ?_ ?_
  · refine jr_iconst K dX11_fits_10 (v := (nI 0)) (by decide) ?_
    exact jr_weak (hk11 (nI 0)) ⟨rfl, rfl, rfl, rfl, rfl, rfl, rfl, trivial⟩
  · refine jr_iconst K dX11_fits_6 (v := (nI 1)) (by decide) ?_
    refine jr_goto K (tgt := 11) dX11_fits_7 (by decide) ?_
    exact jr_weak (hk11 (nI 1)) ⟨rfl, rfl, rfl, rfl, rfl, rfl, rfl, trivial⟩
theorem metX11_fits (hG : jG l D S0 A0) (p0 : Int32) (p1 : Int32) (p2 : Int32) (p3 : Int32) (p4 : Int32) (p5 : Int32) (p6 : Int32) (Qj : Int32 → JP) : Met l yX11_fits (ws_ yX11_fits cX11_fits 9 (some .boolean)) (jrm 12 0 0) (va_Pc [.int p0, .int p1, .int p2, .int p3, .int p4, .int p5, .int p6] (jB D S0 (JX11_fits p0 p1 p2 p3 p4 p5 p6 Qj))) (va_Qi Qj (fun σ t => jRep D S0.heap.size σ t.heap) (jA S0)) 0 0 (jA S0) :=
  jr_start hG (by decide) (Nat.le_of_ble_eq_true rfl) rfl fun p e s m below meth c K hr hn => wX11_fits K _ _ p0 p1 p2 p3 p4 p5 p6 Qj (fun _ _ _ _ _ d => jr_zret K hr d)
theorem wX11_tries_130 (K : JK p l R s m args meth c D S0 A0 14 cX11_tries "MoveNotesModel" 14) (bc bs : Nat) (this : Nat) (p1 : Int32) (p2 : Int32) (p3 : Int32) (v5 : Int32) (s0_61 : Int32) (s0_82 : Int32) (s0_117 : Int32) (k237 : Int32 → Int32 → JP) (hk237 : ∀ (y10_237 : Int32) (y11_237 : Int32), JR p l e R s m args below meth c Q D S0 14 bc bs (k237 y10_237 y11_237) 237 [some (.ref this), some (.int p1), some (.int p2), some (.int p3), none, none, none, none, none, none, some (.int y10_237), some (.int y11_237), none, none] []) : ∀ (n : Nat) (x10_130 : Int32) (x11_130 : Int32) (x12_130 : Int32), JR p l e R s m args below meth c Q D S0 14 bc bs (jit (FX11_tries_130 this p2 p3 v5 s0_61 s0_82 s0_117 k237) (fun _ _ _ => jbot) n x10_130 x11_130 x12_130) 130 [some (.ref this), some (.int p1), some (.int p2), some (.int p3), none, none, some (.int (jrem v5 (nI 36))), some (.int s0_61), some (.int s0_82), some (.int s0_117), some (.int x10_130), some (.int x11_130), some (.int x12_130), none] [] := by
  intro n
  induction n with
  | zero =>
    intro x10_130 x11_130 x12_130
    exact JR.bot
  | succ n ih130 =>
    intro x10_130 x11_130 x12_130
    show JR p l e R s m args below meth c Q D S0 14 bc bs (FX11_tries_130 this p2 p3 v5 s0_61 s0_82 s0_117 k237 (jit (FX11_tries_130 this p2 p3 v5 s0_61 s0_82 s0_117 k237) (fun _ _ _ => jbot) n) x10_130 x11_130 x12_130) 130 [some (.ref this), some (.int p1), some (.int p2), some (.int p3), none, none, some (.int (jrem v5 (nI 36))), some (.int s0_61), some (.int s0_82), some (.int s0_117), some (.int x10_130), some (.int x11_130), some (.int x12_130), none] []
    generalize jit (FX11_tries_130 this p2 p3 v5 s0_61 s0_82 s0_117 k237) (fun _ _ _ => jbot) n = rec130 at ih130 ⊢
    unfold FX11_tries_130
    refine jr_iload K dX11_tries_130 rfl ?_
    refine jr_bipush K dX11_tries_132 (v := (nI 6)) (by decide) ?_
    refine jr_icmp_ge K (tgt := 237) dX11_tries_134 (by decide) ?_ ?_
    · exact jr_weak (hk237 x10_130 x11_130) ⟨rfl, rfl, rfl, rfl, rfl, rfl, trivial⟩
    · refine jr_iload K dX11_tries_137 rfl ?_
      refine jr_join (fun (k231 : Int32 → Int32 → JP) => ∀ (x10_231 : Int32) (x11_231 : Int32), JR p l e R s m args below meth c Q D S0 14 bc bs (k231 x10_231 x11_231) 231 [some (.ref this), some (.int p1), some (.int p2), some (.int p3), none, none, some (.int (jrem v5 (nI 36))), some (.int s0_61), some (.int s0_82), some (.int s0_117), some (.int x10_231), some (.int x11_231), some (.int x12_130), none] []) ?_ (fun k231 hk231 => ?_)
      · intro x10_231 x11_231
        refine jr_iinc K (v := (x12_130 + (nI 1))) (L' := [some (.ref this), some (.int p1), some (.int p2), some (.int p3), none, none, some (.int (jrem v5 (nI 36))), some (.int s0_61), some (.int s0_82), some (.int s0_117), some (.int x10_231), some (.int x11_231), some (.int (x12_130 + (nI 1))), none]) dX11_tries_231 rfl rfl (by decide) rfl rfl ?_
        refine jr_goto K (tgt := 130) dX11_tries_234 (by decide) ?_
        exact jr_weak (ih130 x10_231 x11_231 (x12_130 + (nI 1))) ⟨rfl, rfl, rfl, rfl, rfl, rfl, rfl, rfl, rfl, rfl, rfl, trivial⟩
      refine jr_join (fun (k152 : JP) => JR p l e R s m args below meth c Q D S0 14 bc bs k152 152 [some (.ref this), some (.int p1), some (.int p2), some (.int p3), none, none, some (.int (jrem v5 (nI 36))), some (.int s0_61), some (.int s0_82), some (.int s0_117), some (.int x10_130), some (.int x11_130), some (.int x12_130), none] []) ?_ (fun k152 hk152 => ?_)
      · refine jr_iload K dX11_tries_152 rfl ?_
        refine jr_iload K dX11_tries_154 rfl ?_
        refine jr_iload K dX11_tries_156 rfl ?_
        refine jr_aload_n K dX11_tries_158 rfl ?_
        refine jr_iload_n K dX11_tries_159 rfl ?_
        refine jr_iload_n K dX11_tries_160 rfl ?_
        refine jr_iconst K dX11_tries_161 (v := (nI 2)) (by decide) ?_
        refine jr_calli0 (jrun_V (As := [.int p2, .int p3, .int (nI 2)]) (st := [.int s0_117, .int s0_82, .int x12_130]) (ci := 11) K (metX11_ofNote K.hG this p2 p3 (nI 2) _) mtX11_ofNote mvX11_ofNote q1813 rfl rfl rfl (Nat.le_of_ble_eq_true rfl) (by decide) ⟨Nat.zero_le _, Nat.zero_le _⟩ dX11_tries_162) (fun v162 => ?_)
        refine jr_aload_n K dX11_tries_165 rfl ?_
        refine jr_iload_n K dX11_tries_166 rfl ?_
        refine jr_iload_n K dX11_tries_167 rfl ?_
        refine jr_iconst K dX11_tries_168 (v := (nI 3)) (by decide) ?_
        refine jr_calli0 (jrun_V (As := [.int p2, .int p3, .int (nI 3)]) (st := [.int v162, .int s0_117, .int s0_82, .int x12_130]) (ci := 11) K (metX11_ofNote K.hG this p2 p3 (nI 3) _) mtX11_ofNote mvX11_ofNote q1813 rfl rfl rfl (Nat.le_of_ble_eq_true rfl) (by decide) ⟨Nat.zero_le _, Nat.zero_le _⟩ dX11_tries_169) (fun v169 => ?_)
        refine jr_iload K dX11_tries_172 rfl ?_
        refine jr_bipush K dX11_tries_174 (v := (nI 6)) (by decide) ?_
        refine jr_irem K dX11_tries_176 (by decide) ?_
        refine jr_iload K dX11_tries_177 rfl ?_
        refine jr_calli0 (jrun_S (As := [.int x12_130, .int s0_82, .int s0_117, .int v162, .int v169, .int (jrem (jrem v5 (nI 36)) (nI 6)), .int s0_61]) (st := []) K (metX11_fits K.hG x12_130 s0_82 s0_117 v162 v169 (jrem (jrem v5 (nI 36)) (nI 6)) s0_61 _) mtX11_fits q1988 q1987 rfl rfl (Nat.le_of_ble_eq_true rfl) (by decide) ⟨Nat.zero_le _, Nat.zero_le _⟩ dX11_tries_179) (fun v179 => ?_)
        refine jr_if_ne K (tgt := 188) dX11_tries_182 (by decide) ?_ ?_
        · refine jr_iload K dX11_tries_188 rfl ?_
          refine jr_join (fun (k204 : Int32 → JP) => ∀ (s0_204 : Int32), JR p l e R s m args below meth c Q D S0 14 bc bs (k204 s0_204) 204 [some (.ref this), some (.int p1), some (.int p2), some (.int p3), none, none, some (.int (jrem v5 (nI 36))), some (.int s0_61), some (.int s0_82), some (.int s0_117), some (.int x10_130), some (.int x11_130), some (.int x12_130), none] [.int s0_204]) ?_ (fun k204 hk204 => ?_)
          · intro s0_204
            refine jr_istore K (L' := [some (.ref this), some (.int p1), some (.int p2), some (.int p3), none, none, some (.int (jrem v5 (nI 36))), some (.int s0_61), some (.int s0_82), some (.int s0_117), some (.int x10_130), some (.int x11_130), some (.int x12_130), some (.int s0_204)]) dX11_tries_204 (by decide) rfl rfl ?_
            refine jr_iload K dX11_tries_206 rfl ?_
            refine jr_iload K dX11_tries_208 rfl ?_
            refine jr_join (fun (k220 : Int32 → JP) => ∀ (s0_220 : Int32), JR p l e R s m args below meth c Q D S0 14 bc bs (k220 s0_220) 220 [some (.ref this), some (.int p1), some (.int p2), some (.int p3), none, none, some (.int (jrem v5 (nI 36))), some (.int s0_61), some (.int s0_82), some (.int s0_117), some (.int x10_130), none, some (.int x12_130), some (.int s0_204)] [.int s0_220]) ?_ (fun k220 hk220 => ?_)
            · intro s0_220
              refine jr_istore K (L' := [some (.ref this), some (.int p1), some (.int p2), some (.int p3), none, none, some (.int (jrem v5 (nI 36))), some (.int s0_61), some (.int s0_82), some (.int s0_117), some (.int x10_130), some (.int s0_220), some (.int x12_130), some (.int s0_204)]) dX11_tries_220 (by decide) rfl rfl ?_
              refine jr_iload K dX11_tries_222 rfl ?_
              refine jr_iload K dX11_tries_224 rfl ?_
              refine jr_min K q1937 (by decide) (Nat.le_of_ble_eq_true rfl) dX11_tries_226 ?_
              refine jr_istore K (L' := [some (.ref this), some (.int p1), some (.int p2), some (.int p3), none, none, some (.int (jrem v5 (nI 36))), some (.int s0_61), some (.int s0_82), some (.int s0_117), some (.int (jmin x10_130 s0_204)), some (.int s0_220), some (.int x12_130), some (.int s0_204)]) dX11_tries_229 (by decide) rfl rfl ?_
              exact jr_weak (hk231 (jmin x10_130 s0_204) s0_220) ⟨rfl, rfl, rfl, rfl, rfl, rfl, rfl, rfl, rfl, rfl, rfl, trivial⟩
            refine jr_icmp_ge K (tgt := 218) dX11_tries_210 (by decide) ?_ ?_
            · refine jr_iload K dX11_tries_218 rfl ?_
              exact jr_weak (hk220 x11_130) ⟨rfl, rfl, rfl, rfl, rfl, rfl, rfl, rfl, rfl, rfl, rfl, trivial⟩
            · refine jr_iload K dX11_tries_213 rfl ?_
              refine jr_goto K (tgt := 220) dX11_tries_215 (by decide) ?_
              exact jr_weak (hk220 x12_130) ⟨rfl, rfl, rfl, rfl, rfl, rfl, rfl, rfl, rfl, rfl, rfl, trivial⟩
          refine jr_if_ne K (tgt := 197) dX11_tries_190 (by decide) ?_ ?_
          · refine jr_aload_n K dX11_tries_197 rfl ?_
            refine jr_getA K gf_X11_50 dX11_tries_198 (fun v198 => ?_)
            refine jr_iload K dX11_tries_201 rfl ?_
            refine jr_iald K dX11_tries_203 (fun v203 => ?_)
            exact jr_weak (hk204 v203) ⟨rfl, rfl, rfl, rfl, rfl, rfl, rfl, rfl, rfl, rfl, rfl, trivial⟩
          · refine jr_iconst K dX11_tries_193 (v := (nI 0)) (by decide) ?_
            refine jr_goto K (tgt := 204) dX11_tries_194 (by decide) ?_
            exact jr_weak (hk204 (nI 0)) ⟨rfl, rfl, rfl, rfl, rfl, rfl, rfl, rfl, rfl, rfl, rfl, trivial⟩
        · refine jr_goto K (tgt := 231) dX11_tries_185 (by decide) ?_
          exact jr_weak (hk231 x10_130 x11_130) ⟨rfl, rfl, rfl, rfl, rfl, rfl, rfl, rfl, rfl, rfl, rfl, trivial⟩
      refine jr_if_le K (tgt := 152) dX11_tries_139 (by decide) ?_ ?_
      · exact jr_weak (hk152) ⟨rfl, rfl, rfl, rfl, rfl, rfl, rfl, rfl, rfl, rfl, rfl, trivial⟩
      · refine jr_aload_n K dX11_tries_142 rfl ?_
        refine jr_getA K gf_X11_50 dX11_tries_143 (fun v143 => ?_)
        refine jr_iload K dX11_tries_146 rfl ?_
        refine jr_iald K dX11_tries_148 (fun v148 => ?_)
        refine jr_if_eq K (tgt := 231) dX11_tries_149 (by decide) ?_ ?_
        · exact jr_weak (hk231 x10_130 x11_130) ⟨rfl, rfl, rfl, rfl, rfl, rfl, rfl, rfl, rfl, rfl, rfl, trivial⟩
        · exact jr_weak (hk152) ⟨rfl, rfl, rfl, rfl, rfl, rfl, rfl, rfl, rfl, rfl, rfl, trivial⟩
theorem wX11_tries (K : JK p l R s m args meth c D S0 A0 14 cX11_tries "MoveNotesModel" 14) (bc bs : Nat) (this : Nat) (p1 : Int32) (p2 : Int32) (p3 : Int32) (Qj : JP) (hret : jRetV p l e R s m args below meth c Q D S0 14 cX11_tries Qj) : JR p l e R s m args below meth c Q D S0 14 bc bs (JX11_tries this p1 p2 p3 Qj) 0 [some (.ref this), some (.int p1), some (.int p2), some (.int p3), none, none, none, none, none, none, none, none, none, none] [] := by
  unfold JX11_tries
  refine jr_aload_n K dX11_tries_0 rfl ?_
  refine jr_getA K gf_X11_53 dX11_tries_1 (fun v1 => ?_)
  refine jr_iload_n K dX11_tries_4 rfl ?_
  refine jr_iald K dX11_tries_5 (fun v5 => ?_)
  refine jr_istore K (L' := [some (.ref this), some (.int p1), some (.int p2), some (.int p3), some (.int v5), none, none, none, none, none, none, none, none, none]) dX11_tries_6 (by decide) rfl rfl ?_
  refine jr_aload_n K dX11_tries_8 rfl ?_
  refine jr_iload_n K dX11_tries_9 rfl ?_
  refine jr_iload K dX11_tries_10 rfl ?_
  refine jr_bipush K dX11_tries_12 (v := (nI 36)) (by decide) ?_
  refine jr_idiv K dX11_tries_14 (by decide) ?_
  refine jr_calli0 (jrun_V (As := [.int p1, .int (v5 / (nI 36))]) (st := []) (ci := 11) K (metX11_at K.hG this p1 (v5 / (nI 36)) _) mtX11_at mvX11_at q1845 rfl rfl rfl (Nat.le_of_ble_eq_true rfl) (by decide) ⟨Nat.zero_le _, Nat.zero_le _⟩ dX11_tries_15) (fun v15 => ?_)
  refine jr_istore K (L' := [some (.ref this), some (.int p1), some (.int p2), some (.int p3), some (.int v5), some (.int v15), none, none, none, none, none, none, none, none]) dX11_tries_18 (by decide) rfl rfl ?_
  refine jr_iload K dX11_tries_20 rfl ?_
  refine jr_bipush K dX11_tries_22 (v := (nI 36)) (by decide) ?_
  refine jr_irem K dX11_tries_24 (by decide) ?_
  refine jr_istore K (L' := [some (.ref this), some (.int p1), some (.int p2), some (.int p3), some (.int v5), some (.int v15), some (.int (jrem v5 (nI 36))), none, none, none, none, none, none, none]) dX11_tries_25 (by decide) rfl rfl ?_
  refine jr_aload_n K dX11_tries_27 rfl ?_
  refine jr_getA K gf_X11_47 dX11_tries_28 (fun v28 => ?_)
  refine jr_iload_n K dX11_tries_31 rfl ?_
  refine jr_iald K dX11_tries_32 (fun v32 => ?_)
  refine jr_iconst K dX11_tries_33 (v := (nI 1)) (by decide) ?_
  refine jr_join (fun (k61 : Int32 → JP) => ∀ (s0_61 : Int32), JR p l e R s m args below meth c Q D S0 14 bc bs (k61 s0_61) 61 [some (.ref this), some (.int p1), some (.int p2), some (.int p3), some (.int v5), some (.int v15), some (.int (jrem v5 (nI 36))), none, none, none, none, none, none, none] [.int s0_61]) ?_ (fun k61 hk61 => ?_)
  · intro s0_61
    refine jr_istore K (L' := [some (.ref this), some (.int p1), some (.int p2), some (.int p3), some (.int v5), some (.int v15), some (.int (jrem v5 (nI 36))), some (.int s0_61), none, none, none, none, none, none]) dX11_tries_61 (by decide) rfl rfl ?_
    refine jr_aload_n K dX11_tries_63 rfl ?_
    refine jr_iload_n K dX11_tries_64 rfl ?_
    refine jr_iload_n K dX11_tries_65 rfl ?_
    refine jr_iconst K dX11_tries_66 (v := (nI 0)) (by decide) ?_
    refine jr_calli0 (jrun_V (As := [.int p2, .int p3, .int (nI 0)]) (st := []) (ci := 11) K (metX11_ofNote K.hG this p2 p3 (nI 0) _) mtX11_ofNote mvX11_ofNote q1813 rfl rfl rfl (Nat.le_of_ble_eq_true rfl) (by decide) ⟨Nat.zero_le _, Nat.zero_le _⟩ dX11_tries_67) (fun v67 => ?_)
    refine jr_iload K dX11_tries_70 rfl ?_
    refine jr_iconst K dX11_tries_72 (v := (nI 2)) (by decide) ?_
    refine jr_idiv K dX11_tries_73 (by decide) ?_
    refine jr_join (fun (k82 : Int32 → JP) => ∀ (s0_82 : Int32), JR p l e R s m args below meth c Q D S0 14 bc bs (k82 s0_82) 82 [some (.ref this), some (.int p1), some (.int p2), some (.int p3), some (.int v5), none, some (.int (jrem v5 (nI 36))), some (.int s0_61), none, none, none, none, none, none] [.int s0_82]) ?_ (fun k82 hk82 => ?_)
    · intro s0_82
      refine jr_istore K (L' := [some (.ref this), some (.int p1), some (.int p2), some (.int p3), some (.int v5), none, some (.int (jrem v5 (nI 36))), some (.int s0_61), some (.int s0_82), none, none, none, none, none]) dX11_tries_82 (by decide) rfl rfl ?_
      refine jr_aload_n K dX11_tries_84 rfl ?_
      refine jr_iload_n K dX11_tries_85 rfl ?_
      refine jr_iload_n K dX11_tries_86 rfl ?_
      refine jr_iconst K dX11_tries_87 (v := (nI 1)) (by decide) ?_
      refine jr_calli0 (jrun_V (As := [.int p2, .int p3, .int (nI 1)]) (st := []) (ci := 11) K (metX11_ofNote K.hG this p2 p3 (nI 1) _) mtX11_ofNote mvX11_ofNote q1813 rfl rfl rfl (Nat.le_of_ble_eq_true rfl) (by decide) ⟨Nat.zero_le _, Nat.zero_le _⟩ dX11_tries_88) (fun v88 => ?_)
      refine jr_join (fun (k117 : Int32 → JP) => ∀ (s0_117 : Int32), JR p l e R s m args below meth c Q D S0 14 bc bs (k117 s0_117) 117 [some (.ref this), some (.int p1), some (.int p2), some (.int p3), none, none, some (.int (jrem v5 (nI 36))), some (.int s0_61), some (.int s0_82), none, none, none, none, none] [.int s0_117]) ?_ (fun k117 hk117 => ?_)
      · intro s0_117
        refine jr_istore K (L' := [some (.ref this), some (.int p1), some (.int p2), some (.int p3), none, none, some (.int (jrem v5 (nI 36))), some (.int s0_61), some (.int s0_82), some (.int s0_117), none, none, none, none]) dX11_tries_117 (by decide) rfl rfl ?_
        refine jr_sipush K dX11_tries_119 (v := (nI 1000)) (by decide) ?_
        refine jr_istore K (L' := [some (.ref this), some (.int p1), some (.int p2), some (.int p3), none, none, some (.int (jrem v5 (nI 36))), some (.int s0_61), some (.int s0_82), some (.int s0_117), some (.int (nI 1000)), none, none, none]) dX11_tries_122 (by decide) rfl rfl ?_
        refine jr_iconst K dX11_tries_124 (v := (nI 0)) (by decide) ?_
        refine jr_istore K (L' := [some (.ref this), some (.int p1), some (.int p2), some (.int p3), none, none, some (.int (jrem v5 (nI 36))), some (.int s0_61), some (.int s0_82), some (.int s0_117), some (.int (nI 1000)), some (.int (nI 0)), none, none]) dX11_tries_125 (by decide) rfl rfl ?_
        refine jr_iconst K dX11_tries_127 (v := (nI 0)) (by decide) ?_
        refine jr_istore K (L' := [some (.ref this), some (.int p1), some (.int p2), some (.int p3), none, none, some (.int (jrem v5 (nI 36))), some (.int s0_61), some (.int s0_82), some (.int s0_117), some (.int (nI 1000)), some (.int (nI 0)), some (.int (nI 0)), none]) dX11_tries_128 (by decide) rfl rfl ?_
        refine jr_ex (fun n130 => ?_)
        refine jr_weak (wX11_tries_130 K bc bs this p1 p2 p3 v5 s0_61 s0_82 s0_117 _ ?_ n130 (nI 1000) (nI 0) (nI 0)) ⟨rfl, rfl, rfl, rfl, rfl, rfl, rfl, rfl, rfl, rfl, rfl, trivial⟩
        · intro y10_237 y11_237
          refine jr_aload_n K dX11_tries_237 rfl ?_
          refine jr_getA K gf_X11_56 dX11_tries_238 (fun v238 => ?_)
          refine jr_iload_n K dX11_tries_241 rfl ?_
          refine jr_iload_n K dX11_tries_242 rfl ?_
          refine jr_iload_n K dX11_tries_243 rfl ?_
          refine jr_calli0 (jrun_S (As := [.int p1, .int p2, .int p3]) (st := [.ref v238]) K (metX11_fitAt K.hG p1 p2 p3 _) mtX11_fitAt q1923 q1922 rfl rfl (Nat.le_of_ble_eq_true rfl) (by decide) ⟨Nat.zero_le _, Nat.zero_le _⟩ dX11_tries_244) (fun v244 => ?_)
          refine jr_iload K dX11_tries_247 rfl ?_
          refine jr_iast K dX11_tries_249 ?_
          refine jr_aload_n K dX11_tries_250 rfl ?_
          refine jr_getA K gf_X11_59 dX11_tries_251 (fun v251 => ?_)
          refine jr_iload_n K dX11_tries_254 rfl ?_
          refine jr_iload_n K dX11_tries_255 rfl ?_
          refine jr_iload_n K dX11_tries_256 rfl ?_
          refine jr_calli0 (jrun_S (As := [.int p1, .int p2, .int p3]) (st := [.ref v251]) K (metX11_fitAt K.hG p1 p2 p3 _) mtX11_fitAt q1923 q1922 rfl rfl (Nat.le_of_ble_eq_true rfl) (by decide) ⟨Nat.zero_le _, Nat.zero_le _⟩ dX11_tries_257) (fun v257 => ?_)
          refine jr_iload K dX11_tries_260 rfl ?_
          refine jr_iast K dX11_tries_262 ?_
          exact hret _ _ _ _ dX11_tries_263
      refine jr_join (fun (k112 : JP) => JR p l e R s m args below meth c Q D S0 14 bc bs k112 112 [some (.ref this), some (.int p1), some (.int p2), some (.int p3), none, none, some (.int (jrem v5 (nI 36))), some (.int s0_61), some (.int s0_82), none, none, none, none, none] []) ?_ (fun k112 hk112 => ?_)
      · refine jr_iconst K dX11_tries_112 (v := (nI 1)) (by decide) ?_
        refine jr_goto K (tgt := 117) dX11_tries_113 (by decide) ?_
        exact jr_weak (hk117 (nI 1)) ⟨rfl, rfl, rfl, rfl, rfl, rfl, rfl, trivial⟩
      refine jr_if_lt K (tgt := 112) dX11_tries_91 (by decide) ?_ ?_
      · exact jr_weak (hk112) ⟨rfl, rfl, rfl, rfl, rfl, rfl, rfl, trivial⟩
      · refine jr_aload_n K dX11_tries_94 rfl ?_
        refine jr_iload_n K dX11_tries_95 rfl ?_
        refine jr_iload_n K dX11_tries_96 rfl ?_
        refine jr_iconst K dX11_tries_97 (v := (nI 1)) (by decide) ?_
        refine jr_calli0 (jrun_V (As := [.int p2, .int p3, .int (nI 1)]) (st := []) (ci := 11) K (metX11_ofNote K.hG this p2 p3 (nI 1) _) mtX11_ofNote mvX11_ofNote q1813 rfl rfl rfl (Nat.le_of_ble_eq_true rfl) (by decide) ⟨Nat.zero_le _, Nat.zero_le _⟩ dX11_tries_98) (fun v98 => ?_)
        refine jr_iload K dX11_tries_101 rfl ?_
        refine jr_bipush K dX11_tries_103 (v := (nI 36)) (by decide) ?_
        refine jr_idiv K dX11_tries_105 (by decide) ?_
        refine jr_bipush K dX11_tries_106 (v := (nI 6)) (by decide) ?_
        refine jr_irem K dX11_tries_108 (by decide) ?_
        refine jr_icmp_ne K (tgt := 116) dX11_tries_109 (by decide) ?_ ?_
        · refine jr_iconst K dX11_tries_116 (v := (nI 0)) (by decide) ?_
          exact jr_weak (hk117 (nI 0)) ⟨rfl, rfl, rfl, rfl, rfl, rfl, rfl, trivial⟩
        · exact jr_weak (hk112) ⟨rfl, rfl, rfl, rfl, rfl, rfl, rfl, trivial⟩
    refine jr_icmp_ne K (tgt := 81) dX11_tries_74 (by decide) ?_ ?_
    · refine jr_iconst K dX11_tries_81 (v := (nI 0)) (by decide) ?_
      exact jr_weak (hk82 (nI 0)) ⟨rfl, rfl, rfl, rfl, rfl, rfl, rfl, trivial⟩
    · refine jr_iconst K dX11_tries_77 (v := (nI 1)) (by decide) ?_
      refine jr_goto K (tgt := 82) dX11_tries_78 (by decide) ?_
      exact jr_weak (hk82 (nI 1)) ⟨rfl, rfl, rfl, rfl, rfl, rfl, rfl, trivial⟩
  refine jr_join (fun (k56 : JP) => JR p l e R s m args below meth c Q D S0 14 bc bs k56 56 [some (.ref this), some (.int p1), some (.int p2), some (.int p3), some (.int v5), some (.int v15), some (.int (jrem v5 (nI 36))), none, none, none, none, none, none, none] []) ?_ (fun k56 hk56 => ?_)
  · refine jr_iload K dX11_tries_56 rfl ?_
    refine jr_bipush K dX11_tries_58 (v := (nI 6)) (by decide) ?_
    refine jr_idiv K dX11_tries_60 (by decide) ?_
    exact jr_weak (hk61 ((jrem v5 (nI 36)) / (nI 6))) ⟨rfl, rfl, rfl, rfl, rfl, rfl, rfl, trivial⟩
  refine jr_icmp_ne K (tgt := 56) dX11_tries_34 (by decide) ?_ ?_
  · exact jr_weak (hk56) ⟨rfl, rfl, rfl, rfl, rfl, rfl, rfl, trivial⟩
  · refine jr_iload K dX11_tries_37 rfl ?_
    refine jr_calli0 (jrun_S (As := [.int v15]) (st := []) K (metX11_sideOf K.hG v15 _) mtX11_sideOf q1850 q1849 rfl rfl (Nat.le_of_ble_eq_true rfl) (by decide) ⟨Nat.zero_le _, Nat.zero_le _⟩ dX11_tries_39) (fun v39 => ?_)
    refine jr_iconst K dX11_tries_42 (v := (nI 1)) (by decide) ?_
    refine jr_icmp_ne K (tgt := 56) dX11_tries_43 (by decide) ?_ ?_
    · exact jr_weak (hk56) ⟨rfl, rfl, rfl, rfl, rfl, rfl, rfl, trivial⟩
    · refine jr_iconst K dX11_tries_46 (v := (nI 5)) (by decide) ?_
      refine jr_iload K dX11_tries_47 rfl ?_
      refine jr_bipush K dX11_tries_49 (v := (nI 6)) (by decide) ?_
      refine jr_idiv K dX11_tries_51 (by decide) ?_
      refine jr_isub K dX11_tries_52 ?_
      refine jr_goto K (tgt := 61) dX11_tries_53 (by decide) ?_
      exact jr_weak (hk61 ((nI 5) - ((jrem v5 (nI 36)) / (nI 6)))) ⟨rfl, rfl, rfl, rfl, rfl, rfl, rfl, trivial⟩
theorem metX11_tries (hG : jG l D S0 A0) (this : Nat) (p1 : Int32) (p2 : Int32) (p3 : Int32) (Qj : JP) : Met l yX11_tries (ws_ yX11_tries cX11_tries 14 none) (jrm 14 0 0) (va_Pc [.ref this, .int p1, .int p2, .int p3] (jB D S0 (JX11_tries this p1 p2 p3 Qj))) (va_Qv Qj (fun σ t => jRep D S0.heap.size σ t.heap) (jA S0)) 0 0 (jA S0) :=
  jr_start hG (by decide) (Nat.le_of_ble_eq_true rfl) rfl fun p e s m below meth c K hr hn => wX11_tries K _ _ this p1 p2 p3 Qj (fun _ _ _ _ d => jr_vret K hr d)
theorem wX11_laysAll_156 (K : JK p l R s m args meth c D S0 A0 6 cX11_laysAll "MoveNotesModel" 19) (bc bs : Nat) (this : Nat) (p1 : Int32) (x2_58 : Int32) (x4_142 : Int32) (k191 : JP) (hk191 : JR p l e R s m args below meth c Q D S0 6 bc bs k191 191 [some (.ref this), some (.int p1), some (.int x2_58), none, some (.int x4_142), none] []) : ∀ (n : Nat) (x5_156 : Int32), JR p l e R s m args below meth c Q D S0 6 bc bs (jit (FX11_laysAll_156 this x2_58 x4_142 k191) (fun _ => jbot) n x5_156) 156 [some (.ref this), some (.int p1), some (.int x2_58), none, some (.int x4_142), some (.int x5_156)] [] := by
  intro n
  induction n with
  | zero =>
    intro x5_156
    exact JR.bot
  | succ n ih156 =>
    intro x5_156
    show JR p l e R s m args below meth c Q D S0 6 bc bs (FX11_laysAll_156 this x2_58 x4_142 k191 (jit (FX11_laysAll_156 this x2_58 x4_142 k191) (fun _ => jbot) n) x5_156) 156 [some (.ref this), some (.int p1), some (.int x2_58), none, some (.int x4_142), some (.int x5_156)] []
    generalize jit (FX11_laysAll_156 this x2_58 x4_142 k191) (fun _ => jbot) n = rec156 at ih156 ⊢
    unfold FX11_laysAll_156
    refine jr_iload K dX11_laysAll_156 rfl ?_
    refine jr_aload_n K dX11_laysAll_158 rfl ?_
    refine jr_iload K dX11_laysAll_159 rfl ?_
    refine jr_calli0 (jrun_V (As := [.int x4_142]) (st := [.int x5_156]) (ci := 11) K (metX11_notes K.hG this x4_142 _) mtX11_notes mvX11_notes q1789 rfl rfl rfl (Nat.le_of_ble_eq_true rfl) (by decide) ⟨Nat.zero_le _, Nat.zero_le _⟩ dX11_laysAll_161) (fun v161 => ?_)
    refine jr_icmp_ge K (tgt := 191) dX11_laysAll_164 (by decide) ?_ ?_
    · exact jr_weak (hk191) ⟨rfl, rfl, rfl, rfl, trivial⟩
    · refine jr_aload_n K dX11_laysAll_167 rfl ?_
      refine jr_iload K dX11_laysAll_168 rfl ?_
      refine jr_calli0 (jrun_V (As := [.int x4_142]) (st := []) (ci := 11) K (metX11_isAsked K.hG this x4_142 _) mtX11_isAsked mvX11_isAsked q1907 rfl rfl rfl (Nat.le_of_ble_eq_true rfl) (by decide) ⟨Nat.zero_le _, Nat.zero_le _⟩ dX11_laysAll_170) (fun v170 => ?_)
      refine jr_if_eq K (tgt := 191) dX11_laysAll_173 (by decide) ?_ ?_
      · exact jr_weak (hk191) ⟨rfl, rfl, rfl, rfl, trivial⟩
      · refine jr_aload_n K dX11_laysAll_176 rfl ?_
        refine jr_iload_n K dX11_laysAll_177 rfl ?_
        refine jr_iload K dX11_laysAll_178 rfl ?_
        refine jr_iload K dX11_laysAll_180 rfl ?_
        refine jr_callv0 (jrun_V (As := [.int x2_58, .int x4_142, .int x5_156]) (st := []) (ci := 11) K (metX11_tries K.hG this x2_58 x4_142 x5_156 _) mtX11_tries mvX11_tries q1983 rfl rfl rfl (Nat.le_of_ble_eq_true rfl) (by decide) ⟨Nat.zero_le _, Nat.zero_le _⟩ dX11_laysAll_182) ?_
        refine jr_iinc K (v := (x5_156 + (nI 1))) (L' := [some (.ref this), some (.int p1), some (.int x2_58), none, some (.int x4_142), some (.int (x5_156 + (nI 1)))]) dX11_laysAll_185 rfl rfl (by decide) rfl rfl ?_
        refine jr_goto K (tgt := 156) dX11_laysAll_188 (by decide) ?_
        exact jr_weak (ih156 (x5_156 + (nI 1))) ⟨rfl, rfl, rfl, rfl, rfl, trivial⟩
theorem wX11_laysAll_142 (K : JK p l R s m args meth c D S0 A0 6 cX11_laysAll "MoveNotesModel" 19) (bc bs : Nat) (this : Nat) (p1 : Int32) (x2_58 : Int32) (k197 : JP) (hk197 : JR p l e R s m args below meth c Q D S0 6 bc bs k197 197 [some (.ref this), some (.int p1), some (.int x2_58), none, none, none] []) : ∀ (n : Nat) (x4_142 : Int32), JR p l e R s m args below meth c Q D S0 6 bc bs (jit (FX11_laysAll_142 this x2_58 k197) (fun _ => jbot) n x4_142) 142 [some (.ref this), some (.int p1), some (.int x2_58), none, some (.int x4_142), none] [] := by
  intro n
  induction n with
  | zero =>
    intro x4_142
    exact JR.bot
  | succ n ih142 =>
    intro x4_142
    show JR p l e R s m args below meth c Q D S0 6 bc bs (FX11_laysAll_142 this x2_58 k197 (jit (FX11_laysAll_142 this x2_58 k197) (fun _ => jbot) n) x4_142) 142 [some (.ref this), some (.int p1), some (.int x2_58), none, some (.int x4_142), none] []
    generalize jit (FX11_laysAll_142 this x2_58 k197) (fun _ => jbot) n = rec142 at ih142 ⊢
    unfold FX11_laysAll_142
    refine jr_iload K dX11_laysAll_142 rfl ?_
    refine jr_aload_n K dX11_laysAll_144 rfl ?_
    refine jr_getA K gf_X11_13 dX11_laysAll_145 (fun v145 => ?_)
    refine jr_iconst K dX11_laysAll_148 (v := (nI 1)) (by decide) ?_
    refine jr_iald K dX11_laysAll_149 (fun v149 => ?_)
    refine jr_icmp_ge K (tgt := 197) dX11_laysAll_150 (by decide) ?_ ?_
    · exact jr_weak (hk197) ⟨rfl, rfl, rfl, trivial⟩
    · refine jr_iconst K dX11_laysAll_153 (v := (nI 0)) (by decide) ?_
      refine jr_istore K (L' := [some (.ref this), some (.int p1), some (.int x2_58), none, some (.int x4_142), some (.int (nI 0))]) dX11_laysAll_154 (by decide) rfl rfl ?_
      refine jr_ex (fun n156 => ?_)
      refine jr_weak (wX11_laysAll_156 K bc bs this p1 x2_58 x4_142 _ ?_ n156 (nI 0)) ⟨rfl, rfl, rfl, rfl, rfl, trivial⟩
      · refine jr_iinc K (v := (x4_142 + (nI 1))) (L' := [some (.ref this), some (.int p1), some (.int x2_58), none, some (.int (x4_142 + (nI 1))), none]) dX11_laysAll_191 rfl rfl (by decide) rfl rfl ?_
        refine jr_goto K (tgt := 142) dX11_laysAll_194 (by decide) ?_
        exact jr_weak (ih142 (x4_142 + (nI 1))) ⟨rfl, rfl, rfl, rfl, trivial⟩
theorem wX11_laysAll_76 (K : JK p l R s m args meth c D S0 A0 6 cX11_laysAll "MoveNotesModel" 19) (bc bs : Nat) (this : Nat) (p1 : Int32) (x2_58 : Int32) (k104 : Int32 → JP) (hk104 : ∀ (y3_104 : Int32), JR p l e R s m args below meth c Q D S0 6 bc bs (k104 y3_104) 104 [some (.ref this), some (.int p1), some (.int x2_58), some (.int y3_104), none, none] []) : ∀ (n : Nat) (x3_76 : Int32), JR p l e R s m args below meth c Q D S0 6 bc bs (jit (FX11_laysAll_76 this x2_58 k104) (fun _ => jbot) n x3_76) 76 [some (.ref this), some (.int p1), some (.int x2_58), some (.int x3_76), none, none] [] := by
  intro n
  induction n with
  | zero =>
    intro x3_76
    exact JR.bot
  | succ n ih76 =>
    intro x3_76
    show JR p l e R s m args below meth c Q D S0 6 bc bs (FX11_laysAll_76 this x2_58 k104 (jit (FX11_laysAll_76 this x2_58 k104) (fun _ => jbot) n) x3_76) 76 [some (.ref this), some (.int p1), some (.int x2_58), some (.int x3_76), none, none] []
    generalize jit (FX11_laysAll_76 this x2_58 k104) (fun _ => jbot) n = rec76 at ih76 ⊢
    unfold FX11_laysAll_76
    refine jr_iload_n K dX11_laysAll_76 rfl ?_
    refine jr_sipush K dX11_laysAll_77 (v := (nI 1296)) (by decide) ?_
    refine jr_icmp_ge K (tgt := 104) dX11_laysAll_80 (by decide) ?_ ?_
    · exact jr_weak (hk104 x3_76) ⟨rfl, rfl, rfl, rfl, trivial⟩
    · refine jr_aload_n K dX11_laysAll_83 rfl ?_
      refine jr_getA K gf_X11_43 dX11_laysAll_84 (fun v84 => ?_)
      refine jr_sipush K dX11_laysAll_87 (v := (nI 1296)) (by decide) ?_
      refine jr_iload_n K dX11_laysAll_90 rfl ?_
      refine jr_imul K dX11_laysAll_91 ?_
      refine jr_iload_n K dX11_laysAll_92 rfl ?_
      refine jr_iadd K dX11_laysAll_93 ?_
      refine jr_zald K dX11_laysAll_94 (fun v94 => ?_)
      refine jr_if_ne K (tgt := 104) dX11_laysAll_95 (by decide) ?_ ?_
      · exact jr_weak (hk104 x3_76) ⟨rfl, rfl, rfl, rfl, trivial⟩
      · refine jr_iinc K (v := (x3_76 + (nI 1))) (L' := [some (.ref this), some (.int p1), some (.int x2_58), some (.int (x3_76 + (nI 1))), none, none]) dX11_laysAll_98 rfl rfl (by decide) rfl rfl ?_
        refine jr_goto K (tgt := 76) dX11_laysAll_101 (by decide) ?_
        exact jr_weak (ih76 (x3_76 + (nI 1))) ⟨rfl, rfl, rfl, rfl, trivial⟩
theorem wX11_laysAll_58 (K : JK p l R s m args meth c D S0 A0 6 cX11_laysAll "MoveNotesModel" 19) (bc bs : Nat) (this : Nat) (p1 : Int32) (Qj : JP) (hret : jRetV p l e R s m args below meth c Q D S0 6 cX11_laysAll Qj) : ∀ (n : Nat) (x2_58 : Int32), JR p l e R s m args below meth c Q D S0 6 bc bs (jit (FX11_laysAll_58 this p1 Qj) (fun _ => jbot) n x2_58) 58 [some (.ref this), some (.int p1), some (.int x2_58), none, none, none] [] := by
  intro n
  induction n with
  | zero =>
    intro x2_58
    exact JR.bot
  | succ n ih58 =>
    intro x2_58
    show JR p l e R s m args below meth c Q D S0 6 bc bs (FX11_laysAll_58 this p1 Qj (jit (FX11_laysAll_58 this p1 Qj) (fun _ => jbot) n) x2_58) 58 [some (.ref this), some (.int p1), some (.int x2_58), none, none, none] []
    generalize jit (FX11_laysAll_58 this p1 Qj) (fun _ => jbot) n = rec58 at ih58 ⊢
    unfold FX11_laysAll_58
    refine jr_iload_n K dX11_laysAll_58 rfl ?_
    refine jr_if_lt K (tgt := 227) dX11_laysAll_59 (by decide) ?_ ?_
    · exact hret _ _ _ _ dX11_laysAll_227
    · refine jr_aload_n K dX11_laysAll_62 rfl ?_
      refine jr_getI K gf_X11_401 dX11_laysAll_63 (fun v63 => ?_)
      refine jr_if_ne K (tgt := 227) dX11_laysAll_66 (by decide) ?_ ?_
      · exact hret _ _ _ _ dX11_laysAll_227
      · refine jr_aload_n K dX11_laysAll_69 rfl ?_
        refine jr_getA K gf_X11_65 dX11_laysAll_70 (fun v70 => ?_)
        refine jr_iload_n K dX11_laysAll_73 rfl ?_
        refine jr_iald K dX11_laysAll_74 (fun v74 => ?_)
        refine jr_istore_n K (L' := [some (.ref this), some (.int p1), some (.int x2_58), some (.int v74), none, none]) dX11_laysAll_75 (by decide) rfl rfl ?_
        refine jr_ex (fun n76 => ?_)
        refine jr_weak (wX11_laysAll_76 K bc bs this p1 x2_58 _ ?_ n76 v74) ⟨rfl, rfl, rfl, rfl, trivial⟩
        · intro y3_104
          refine jr_iload_n K dX11_laysAll_104 rfl ?_
          refine jr_sipush K dX11_laysAll_105 (v := (nI 1296)) (by decide) ?_
          refine jr_icmp_ne K (tgt := 117) dX11_laysAll_108 (by decide) ?_ ?_
          · refine jr_aload_n K dX11_laysAll_117 rfl ?_
            refine jr_getA K gf_X11_65 dX11_laysAll_118 (fun v118 => ?_)
            refine jr_iload_n K dX11_laysAll_121 rfl ?_
            refine jr_iload_n K dX11_laysAll_122 rfl ?_
            refine jr_iconst K dX11_laysAll_123 (v := (nI 1)) (by decide) ?_
            refine jr_iadd K dX11_laysAll_124 ?_
            refine jr_iast K dX11_laysAll_125 ?_
            refine jr_aload_n K dX11_laysAll_126 rfl ?_
            refine jr_getA K gf_X11_53 dX11_laysAll_127 (fun v127 => ?_)
            refine jr_iload_n K dX11_laysAll_130 rfl ?_
            refine jr_iload_n K dX11_laysAll_131 rfl ?_
            refine jr_iast K dX11_laysAll_132 ?_
            refine jr_aload_n K dX11_laysAll_133 rfl ?_
            refine jr_iload_n K dX11_laysAll_134 rfl ?_
            refine jr_iload_n K dX11_laysAll_135 rfl ?_
            refine jr_callv0 (jrun_V (As := [.int x2_58, .int y3_104]) (st := []) (ci := 11) K (metX11_makes K.hG this x2_58 y3_104 _) mtX11_makes mvX11_makes q1979 rfl rfl rfl (Nat.le_of_ble_eq_true rfl) (by decide) ⟨Nat.zero_le _, Nat.zero_le _⟩ dX11_laysAll_136) ?_
            refine jr_iconst K dX11_laysAll_139 (v := (nI 0)) (by decide) ?_
            refine jr_istore K (L' := [some (.ref this), some (.int p1), some (.int x2_58), some (.int y3_104), some (.int (nI 0)), none]) dX11_laysAll_140 (by decide) rfl rfl ?_
            refine jr_ex (fun n142 => ?_)
            refine jr_weak (wX11_laysAll_142 K bc bs this p1 x2_58 _ ?_ n142 (nI 0)) ⟨rfl, rfl, rfl, rfl, trivial⟩
            · refine jr_aload_n K dX11_laysAll_197 rfl ?_
              refine jr_iload_n K dX11_laysAll_198 rfl ?_
              refine jr_iconst K dX11_laysAll_199 (v := (nI 1)) (by decide) ?_
              refine jr_iadd K dX11_laysAll_200 ?_
              refine jr_callv0 (jrun_V (As := [.int (x2_58 + (nI 1))]) (st := []) (ci := 11) K (metX11_prices K.hG this (x2_58 + (nI 1)) _) mtX11_prices mvX11_prices q1903 rfl rfl rfl (Nat.le_of_ble_eq_true rfl) (by decide) ⟨Nat.zero_le _, Nat.zero_le _⟩ dX11_laysAll_201) ?_
              refine jr_aload_n K dX11_laysAll_204 rfl ?_
              refine jr_getI K gf_X11_347 dX11_laysAll_205 (fun v205 => ?_)
              refine jr_iload_n K dX11_laysAll_208 rfl ?_
              refine jr_icmp_le K (tgt := 215) dX11_laysAll_209 (by decide) ?_ ?_
              · refine jr_iinc K (v := (x2_58 + (nI 1))) (L' := [some (.ref this), some (.int p1), some (.int (x2_58 + (nI 1))), none, none, none]) dX11_laysAll_215 rfl rfl (by decide) rfl rfl ?_
                refine jr_aload_n K dX11_laysAll_218 rfl ?_
                refine jr_iload_n K dX11_laysAll_219 rfl ?_
                refine jr_iload_n K dX11_laysAll_220 rfl ?_
                refine jr_callv0 (jrun_V (As := [.int (x2_58 + (nI 1)), .int p1]) (st := []) (ci := 11) K (metX11_lays K.hG this (x2_58 + (nI 1)) p1 _) mtX11_lays mvX11_lays q1938 rfl rfl rfl (Nat.le_of_ble_eq_true rfl) (by decide) ⟨Nat.zero_le _, Nat.zero_le _⟩ dX11_laysAll_221) ?_
                refine jr_goto K (tgt := 58) dX11_laysAll_224 (by decide) ?_
                exact jr_weak (ih58 (x2_58 + (nI 1))) ⟨rfl, rfl, rfl, trivial⟩
              · refine jr_goto K (tgt := 58) dX11_laysAll_212 (by decide) ?_
                exact jr_weak (ih58 x2_58) ⟨rfl, rfl, rfl, trivial⟩
          · refine jr_iinc K (v := (x2_58 + (-1))) (L' := [some (.ref this), some (.int p1), some (.int (x2_58 + (-1))), some (.int y3_104), none, none]) dX11_laysAll_111 rfl rfl (by decide) rfl rfl ?_
            refine jr_goto K (tgt := 58) dX11_laysAll_114 (by decide) ?_
            exact jr_weak (ih58 (x2_58 + (-1))) ⟨rfl, rfl, rfl, trivial⟩
theorem wX11_laysAll_2 (K : JK p l R s m args meth c D S0 A0 6 cX11_laysAll "MoveNotesModel" 19) (bc bs : Nat) (this : Nat) (p1 : Int32) (k31 : JP) (hk31 : JR p l e R s m args below meth c Q D S0 6 bc bs k31 31 [some (.ref this), some (.int p1), none, none, none, none] []) : ∀ (n : Nat) (x2_2 : Int32), JR p l e R s m args below meth c Q D S0 6 bc bs (jit (FX11_laysAll_2 this k31) (fun _ => jbot) n x2_2) 2 [some (.ref this), some (.int p1), some (.int x2_2), none, none, none] [] := by
  intro n
  induction n with
  | zero =>
    intro x2_2
    exact JR.bot
  | succ n ih2 =>
    intro x2_2
    show JR p l e R s m args below meth c Q D S0 6 bc bs (FX11_laysAll_2 this k31 (jit (FX11_laysAll_2 this k31) (fun _ => jbot) n) x2_2) 2 [some (.ref this), some (.int p1), some (.int x2_2), none, none, none] []
    generalize jit (FX11_laysAll_2 this k31) (fun _ => jbot) n = rec2 at ih2 ⊢
    unfold FX11_laysAll_2
    refine jr_iload_n K dX11_laysAll_2 rfl ?_
    refine jr_aload_n K dX11_laysAll_3 rfl ?_
    refine jr_getA K gf_X11_68 dX11_laysAll_4 (fun v4 => ?_)
    refine jr_alen K dX11_laysAll_7 (fun v7 => ?_)
    refine jr_icmp_ge K (tgt := 31) dX11_laysAll_8 (by decide) ?_ ?_
    · exact jr_weak (hk31) ⟨rfl, rfl, trivial⟩
    · refine jr_aload_n K dX11_laysAll_11 rfl ?_
      refine jr_getA K gf_X11_68 dX11_laysAll_12 (fun v12 => ?_)
      refine jr_iload_n K dX11_laysAll_15 rfl ?_
      refine jr_lconst K dX11_laysAll_16 (v := (lN 0)) rfl ?_
      refine jr_last K dX11_laysAll_17 ?_
      refine jr_aload_n K dX11_laysAll_18 rfl ?_
      refine jr_getA K gf_X11_72 dX11_laysAll_19 (fun v19 => ?_)
      refine jr_iload_n K dX11_laysAll_22 rfl ?_
      refine jr_lconst K dX11_laysAll_23 (v := (lN 0)) rfl ?_
      refine jr_last K dX11_laysAll_24 ?_
      refine jr_iinc K (v := (x2_2 + (nI 1))) (L' := [some (.ref this), some (.int p1), some (.int (x2_2 + (nI 1))), none, none, none]) dX11_laysAll_25 rfl rfl (by decide) rfl rfl ?_
      refine jr_goto K (tgt := 2) dX11_laysAll_28 (by decide) ?_
      exact jr_weak (ih2 (x2_2 + (nI 1))) ⟨rfl, rfl, rfl, trivial⟩
theorem wX11_laysAll (K : JK p l R s m args meth c D S0 A0 6 cX11_laysAll "MoveNotesModel" 19) (bc bs : Nat) (this : Nat) (p1 : Int32) (Qj : JP) (hret : jRetV p l e R s m args below meth c Q D S0 6 cX11_laysAll Qj) : JR p l e R s m args below meth c Q D S0 6 bc bs (JX11_laysAll this p1 Qj) 0 [some (.ref this), some (.int p1), none, none, none, none] [] := by
  unfold JX11_laysAll
  refine jr_iconst K dX11_laysAll_0 (v := (nI 0)) (by decide) ?_
  refine jr_istore_n K (L' := [some (.ref this), some (.int p1), some (.int (nI 0)), none, none, none]) dX11_laysAll_1 (by decide) rfl rfl ?_
  refine jr_ex (fun n2 => ?_)
  refine jr_weak (wX11_laysAll_2 K bc bs this p1 _ ?_ n2 (nI 0)) ⟨rfl, rfl, rfl, trivial⟩
  · refine jr_aload_n K dX11_laysAll_31 rfl ?_
    refine jr_iconst K dX11_laysAll_32 (v := (nI 0)) (by decide) ?_
    refine jr_put K pf_X11_374 dX11_laysAll_33 rfl rfl ?_
    refine jr_aload_n K dX11_laysAll_36 rfl ?_
    refine jr_iconst K dX11_laysAll_37 (v := (nI 0)) (by decide) ?_
    refine jr_put K pf_X11_404 dX11_laysAll_38 rfl rfl ?_
    refine jr_aload_n K dX11_laysAll_41 rfl ?_
    refine jr_callv0 (jrun_V (As := []) (st := []) (ci := 11) K (metX11_begins K.hG this _) mtX11_begins mvX11_begins q1837 rfl rfl rfl (Nat.le_of_ble_eq_true rfl) (by decide) ⟨Nat.zero_le _, Nat.zero_le _⟩ dX11_laysAll_42) ?_
    refine jr_aload_n K dX11_laysAll_45 rfl ?_
    refine jr_iconst K dX11_laysAll_46 (v := (nI 0)) (by decide) ?_
    refine jr_callv0 (jrun_V (As := [.int (nI 0)]) (st := []) (ci := 11) K (metX11_prices K.hG this (nI 0) _) mtX11_prices mvX11_prices q1903 rfl rfl rfl (Nat.le_of_ble_eq_true rfl) (by decide) ⟨Nat.zero_le _, Nat.zero_le _⟩ dX11_laysAll_47) ?_
    refine jr_aload_n K dX11_laysAll_50 rfl ?_
    refine jr_iconst K dX11_laysAll_51 (v := (nI 0)) (by decide) ?_
    refine jr_iload_n K dX11_laysAll_52 rfl ?_
    refine jr_callv0 (jrun_V (As := [.int (nI 0), .int p1]) (st := []) (ci := 11) K (metX11_lays K.hG this (nI 0) p1 _) mtX11_lays mvX11_lays q1938 rfl rfl rfl (Nat.le_of_ble_eq_true rfl) (by decide) ⟨Nat.zero_le _, Nat.zero_le _⟩ dX11_laysAll_53) ?_
    refine jr_iconst K dX11_laysAll_56 (v := (nI 0)) (by decide) ?_
    refine jr_istore_n K (L' := [some (.ref this), some (.int p1), some (.int (nI 0)), none, none, none]) dX11_laysAll_57 (by decide) rfl rfl ?_
    refine jr_ex (fun n58 => ?_)
    refine jr_weak (wX11_laysAll_58 K bc bs this p1 Qj hret n58 (nI 0)) ⟨rfl, rfl, rfl, trivial⟩
theorem metX11_laysAll (hG : jG l D S0 A0) (this : Nat) (p1 : Int32) (Qj : JP) : Met l yX11_laysAll (ws_ yX11_laysAll cX11_laysAll 6 none) (jrm 19 0 0) (va_Pc [.ref this, .int p1] (jB D S0 (JX11_laysAll this p1 Qj))) (va_Qv Qj (fun σ t => jRep D S0.heap.size σ t.heap) (jA S0)) 0 0 (jA S0) :=
  jr_start hG (by decide) (Nat.le_of_ble_eq_true rfl) rfl fun p e s m below meth c K hr hn => wX11_laysAll K _ _ this p1 Qj (fun _ _ _ _ d => jr_vret K hr d)
theorem wX11_asks_23 (K : JK p l R s m args meth c D S0 A0 2 cX11_asks "MoveNotesModel" 20) (bc bs : Nat) (this : Nat) (Qj : Int32 → JP) (hret : jRetI p l e R s m args below meth c Q D S0 2 cX11_asks Qj) : ∀ (n : Nat) (x1_23 : Int32), JR p l e R s m args below meth c Q D S0 2 bc bs (jit (FX11_asks_23 this Qj) (fun _ => jbot) n x1_23) 23 [some (.ref this), some (.int x1_23)] [] := by
  intro n
  induction n with
  | zero =>
    intro x1_23
    exact JR.bot
  | succ n ih23 =>
    intro x1_23
    show JR p l e R s m args below meth c Q D S0 2 bc bs (FX11_asks_23 this Qj (jit (FX11_asks_23 this Qj) (fun _ => jbot) n) x1_23) 23 [some (.ref this), some (.int x1_23)] []
    generalize jit (FX11_asks_23 this Qj) (fun _ => jbot) n = rec23 at ih23 ⊢
    unfold FX11_asks_23
    refine jr_iload_n K dX11_asks_23 rfl ?_
    refine jr_bipush K dX11_asks_24 (v := (nI 20)) (by decide) ?_
    refine jr_icmp_gt K (tgt := 59) dX11_asks_26 (by decide) ?_ ?_
    · refine jr_iconst K dX11_asks_59 (v := (-1)) (by decide) ?_
      exact hret _ _ _ _ _ dX11_asks_60
    · refine jr_aload_n K dX11_asks_29 rfl ?_
      refine jr_iload_n K dX11_asks_30 rfl ?_
      refine jr_callv0 (jrun_V (As := [.int x1_23]) (st := []) (ci := 11) K (metX11_laysAll K.hG this x1_23 _) mtX11_laysAll mvX11_laysAll q1899 rfl rfl rfl (Nat.le_of_ble_eq_true rfl) (by decide) ⟨Nat.zero_le _, Nat.zero_le _⟩ dX11_asks_31) ?_
      refine jr_aload_n K dX11_asks_34 rfl ?_
      refine jr_getI K gf_X11_401 dX11_asks_35 (fun v35 => ?_)
      refine jr_if_eq K (tgt := 44) dX11_asks_38 (by decide) ?_ ?_
      · refine jr_aload_n K dX11_asks_44 rfl ?_
        refine jr_getI K gf_X11_374 dX11_asks_45 (fun v45 => ?_)
        refine jr_if_le K (tgt := 53) dX11_asks_48 (by decide) ?_ ?_
        · refine jr_iinc K (v := (x1_23 + (nI 1))) (L' := [some (.ref this), some (.int (x1_23 + (nI 1)))]) dX11_asks_53 rfl rfl (by decide) rfl rfl ?_
          refine jr_goto K (tgt := 23) dX11_asks_56 (by decide) ?_
          exact jr_weak (ih23 (x1_23 + (nI 1))) ⟨rfl, rfl, trivial⟩
        · refine jr_iload_n K dX11_asks_51 rfl ?_
          exact hret _ _ _ _ _ dX11_asks_52
      · refine jr_bipush K dX11_asks_41 (v := (-2)) (by decide) ?_
        exact hret _ _ _ _ _ dX11_asks_43
theorem wX11_asks (K : JK p l R s m args meth c D S0 A0 2 cX11_asks "MoveNotesModel" 20) (bc bs : Nat) (this : Nat) (Qj : Int32 → JP) (hret : jRetI p l e R s m args below meth c Q D S0 2 cX11_asks Qj) : JR p l e R s m args below meth c Q D S0 2 bc bs (JX11_asks this Qj) 0 [some (.ref this), none] [] := by
  unfold JX11_asks
  refine jr_aload_n K dX11_asks_0 rfl ?_
  refine jr_iconst K dX11_asks_1 (v := (nI 0)) (by decide) ?_
  refine jr_put K pf_X11_398 dX11_asks_2 rfl rfl ?_
  refine jr_aload_n K dX11_asks_5 rfl ?_
  refine jr_iconst K dX11_asks_6 (v := (nI 0)) (by decide) ?_
  refine jr_putZ K pf_X11_401 dX11_asks_7 ?_
  refine jr_aload_n K dX11_asks_10 rfl ?_
  refine jr_iconst K dX11_asks_11 (v := (nI 0)) (by decide) ?_
  refine jr_putZ K pf_X11_359 dX11_asks_12 ?_
  refine jr_aload_n K dX11_asks_15 rfl ?_
  refine jr_bipush K dX11_asks_16 (v := (nI 30)) (by decide) ?_
  refine jr_put K pf_X11_368 dX11_asks_18 rfl rfl ?_
  refine jr_iconst K dX11_asks_21 (v := (nI 0)) (by decide) ?_
  refine jr_istore_n K (L' := [some (.ref this), some (.int (nI 0))]) dX11_asks_22 (by decide) rfl rfl ?_
  refine jr_ex (fun n23 => ?_)
  refine jr_weak (wX11_asks_23 K bc bs this Qj hret n23 (nI 0)) ⟨rfl, rfl, trivial⟩
theorem metX11_asks (hG : jG l D S0 A0) (this : Nat) (Qj : Int32 → JP) : Met l yX11_asks (ws_ yX11_asks cX11_asks 2 (some .int)) (jrm 20 0 0) (va_Pc [.ref this] (jB D S0 (JX11_asks this Qj))) (va_Qi Qj (fun σ t => jRep D S0.heap.size σ t.heap) (jA S0)) 0 0 (jA S0) :=
  jr_start hG (by decide) (Nat.le_of_ble_eq_true rfl) rfl fun p e s m below meth c K hr hn => wX11_asks K _ _ this Qj (fun _ _ _ _ _ d => jr_iret K hr rfl d)
theorem wX11_asksWhole (K : JK p l R s m args meth c D S0 A0 1 cX11_asksWhole "MoveNotesModel" 21) (bc bs : Nat) (this : Nat) (Qj : Int32 → JP) (hret : jRetI p l e R s m args below meth c Q D S0 1 cX11_asksWhole Qj) : JR p l e R s m args below meth c Q D S0 1 bc bs (JX11_asksWhole this Qj) 0 [some (.ref this)] [] := by
  unfold JX11_asksWhole
  refine jr_aload_n K dX11_asksWhole_0 rfl ?_
  refine jr_callv0 (jrun_V (As := []) (st := []) (ci := 11) K (metX11_asksAll K.hG this _) mtX11_asksAll mvX11_asksAll q1891 rfl rfl rfl (Nat.le_of_ble_eq_true rfl) (by decide) ⟨Nat.zero_le _, Nat.zero_le _⟩ dX11_asksWhole_1) ?_
  refine jr_aload_n K dX11_asksWhole_4 rfl ?_
  refine jr_calli0 (jrun_V (As := []) (st := []) (ci := 11) K (metX11_asks K.hG this _) mtX11_asks mvX11_asks q1895 rfl rfl rfl (Nat.le_of_ble_eq_true rfl) (by decide) ⟨Nat.zero_le _, Nat.zero_le _⟩ dX11_asksWhole_5) (fun v5 => ?_)
  exact hret _ _ _ _ _ dX11_asksWhole_8
theorem metX11_asksWhole (hG : jG l D S0 A0) (this : Nat) (Qj : Int32 → JP) : Met l yX11_asksWhole (ws_ yX11_asksWhole cX11_asksWhole 1 (some .int)) (jrm 21 0 0) (va_Pc [.ref this] (jB D S0 (JX11_asksWhole this Qj))) (va_Qi Qj (fun σ t => jRep D S0.heap.size σ t.heap) (jA S0)) 0 0 (jA S0) :=
  jr_start hG (by decide) (Nat.le_of_ble_eq_true rfl) rfl fun p e s m below meth c K hr hn => wX11_asksWhole K _ _ this Qj (fun _ _ _ _ _ d => jr_iret K hr rfl d)
theorem wX11_least (K : JK p l R s m args meth c D S0 A0 1 cX11_least "MoveNotesModel" 22) (bc bs : Nat) (this : Nat) (Qj : Int32 → JP) (hret : jRetI p l e R s m args below meth c Q D S0 1 cX11_least Qj) : JR p l e R s m args below meth c Q D S0 1 bc bs (JX11_least this Qj) 0 [some (.ref this)] [] := by
  unfold JX11_least
  refine jr_aload_n K dX11_least_0 rfl ?_
  refine jr_iconst K dX11_least_1 (v := (nI 0)) (by decide) ?_
  refine jr_put K pf_X11_3 dX11_least_2 rfl rfl ?_
  refine jr_aload_n K dX11_least_5 rfl ?_
  refine jr_calli0 (jrun_V (As := []) (st := []) (ci := 11) K (metX11_asksWhole K.hG this _) mtX11_asksWhole mvX11_asksWhole q1887 rfl rfl rfl (Nat.le_of_ble_eq_true rfl) (by decide) ⟨Nat.zero_le _, Nat.zero_le _⟩ dX11_least_6) (fun v6 => ?_)
  exact hret _ _ _ _ _ dX11_least_9
theorem metX11_least (hG : jG l D S0 A0) (this : Nat) (Qj : Int32 → JP) : Met l yX11_least (ws_ yX11_least cX11_least 1 (some .int)) (jrm 22 0 0) (va_Pc [.ref this] (jB D S0 (JX11_least this Qj))) (va_Qi Qj (fun σ t => jRep D S0.heap.size σ t.heap) (jA S0)) 0 0 (jA S0) :=
  jr_start hG (by decide) (Nat.le_of_ble_eq_true rfl) rfl fun p e s m below meth c K hr hn => wX11_least K _ _ this Qj (fun _ _ _ _ _ d => jr_iret K hr rfl d)
theorem wX11_many (K : JK p l R s m args meth c D S0 A0 2 cX11_many "MoveNotesModel" 22) (bc bs : Nat) (this : Nat) (Qj : Int32 → JP) (hret : jRetI p l e R s m args below meth c Q D S0 2 cX11_many Qj) : JR p l e R s m args below meth c Q D S0 2 bc bs (JX11_many this Qj) 0 [some (.ref this), none] [] := by
  unfold JX11_many
  refine jr_aload_n K dX11_many_0 rfl ?_
  refine jr_iconst K dX11_many_1 (v := (nI 0)) (by decide) ?_
  refine jr_put K pf_X11_3 dX11_many_2 rfl rfl ?_
  refine jr_aload_n K dX11_many_5 rfl ?_
  refine jr_calli0 (jrun_V (As := []) (st := []) (ci := 11) K (metX11_asksWhole K.hG this _) mtX11_asksWhole mvX11_asksWhole q1887 rfl rfl rfl (Nat.le_of_ble_eq_true rfl) (by decide) ⟨Nat.zero_le _, Nat.zero_le _⟩ dX11_many_6) (fun v6 => ?_)
  refine jr_istore_n K (L' := [some (.ref this), some (.int v6)]) dX11_many_9 (by decide) rfl rfl ?_
  refine jr_iload_n K dX11_many_10 rfl ?_
  refine jr_if_ge K (tgt := 18) dX11_many_11 (by decide) ?_ ?_
  · refine jr_aload_n K dX11_many_18 rfl ?_
    refine jr_getI K gf_X11_374 dX11_many_19 (fun v19 => ?_)
    exact hret _ _ _ _ _ dX11_many_22
  · refine jr_iload_n K dX11_many_14 rfl ?_
    refine jr_goto K (tgt := 22) dX11_many_15 (by decide) ?_
    exact hret _ _ _ _ _ dX11_many_22
theorem metX11_many (hG : jG l D S0 A0) (this : Nat) (Qj : Int32 → JP) : Met l yX11_many (ws_ yX11_many cX11_many 2 (some .int)) (jrm 22 0 0) (va_Pc [.ref this] (jB D S0 (JX11_many this Qj))) (va_Qi Qj (fun σ t => jRep D S0.heap.size σ t.heap) (jA S0)) 0 0 (jA S0) :=
  jr_start hG (by decide) (Nat.le_of_ble_eq_true rfl) rfl fun p e s m below meth c K hr hn => wX11_many K _ _ this Qj (fun _ _ _ _ _ d => jr_iret K hr rfl d)
theorem wX11_read (K : JK p l R s m args meth c D S0 A0 3 cX11_read "MoveNotesModel" 22) (bc bs : Nat) (this : Nat) (p1 : Int32) (Qj : Int32 → JP) (hret : jRetI p l e R s m args below meth c Q D S0 3 cX11_read Qj) : JR p l e R s m args below meth c Q D S0 3 bc bs (JX11_read this p1 Qj) 0 [some (.ref this), some (.int p1), none] [] := by
  unfold JX11_read
  refine jr_aload_n K dX11_read_0 rfl ?_
  refine jr_iconst K dX11_read_1 (v := (nI 0)) (by decide) ?_
  refine jr_put K pf_X11_3 dX11_read_2 rfl rfl ?_
  refine jr_aload_n K dX11_read_5 rfl ?_
  refine jr_iload_n K dX11_read_6 rfl ?_
  refine jr_iconst K dX11_read_7 (v := (-1)) (by decide) ?_
  refine jr_join (fun (k16 : Int32 → JP) => ∀ (s1_16 : Int32), JR p l e R s m args below meth c Q D S0 3 bc bs (k16 s1_16) 16 [some (.ref this), some (.int p1), none] [.int s1_16, .ref this]) ?_ (fun k16 hk16 => ?_)
  · intro s1_16
    refine jr_iconst K dX11_read_16 (v := (nI 1)) (by decide) ?_
    refine jr_calli0 (jrun_V (As := [.int s1_16, .int (nI 1)]) (st := []) (ci := 11) K (metX11_throwsIf K.hG this s1_16 (nI 1) _) mtX11_throwsIf mvX11_throwsIf q1748 rfl rfl rfl (Nat.le_of_ble_eq_true rfl) (by decide) ⟨Nat.zero_le _, Nat.zero_le _⟩ dX11_read_17) (fun v17 => ?_)
    refine jr_if_eq K (tgt := 25) dX11_read_20 (by decide) ?_ ?_
    · refine jr_aload_n K dX11_read_25 rfl ?_
      refine jr_calli0 (jrun_V (As := []) (st := []) (ci := 11) K (metX11_asksWhole K.hG this _) mtX11_asksWhole mvX11_asksWhole q1887 rfl rfl rfl (Nat.le_of_ble_eq_true rfl) (by decide) ⟨Nat.zero_le _, Nat.zero_le _⟩ dX11_read_26) (fun v26 => ?_)
      refine jr_istore_n K (L' := [some (.ref this), some (.int p1), some (.int v26)]) dX11_read_29 (by decide) rfl rfl ?_
      refine jr_iload_n K dX11_read_30 rfl ?_
      refine jr_if_ge K (tgt := 38) dX11_read_31 (by decide) ?_ ?_
      · refine jr_iload_n K dX11_read_38 rfl ?_
        refine jr_if_ge K (tgt := 49) dX11_read_39 (by decide) ?_ ?_
        · refine jr_iload_n K dX11_read_49 rfl ?_
          refine jr_aload_n K dX11_read_50 rfl ?_
          refine jr_getI K gf_X11_380 dX11_read_51 (fun v51 => ?_)
          refine jr_icmp_ge K (tgt := 66) dX11_read_54 (by decide) ?_ ?_
          · refine jr_bipush K dX11_read_66 (v := (-3)) (by decide) ?_
            exact hret _ _ _ _ _ dX11_read_68
          · refine jr_aload_n K dX11_read_57 rfl ?_
            refine jr_getA K gf_X11_75 dX11_read_58 (fun v58 => ?_)
            refine jr_iload_n K dX11_read_61 rfl ?_
            refine jr_iald K dX11_read_62 (fun v62 => ?_)
            refine jr_goto K (tgt := 68) dX11_read_63 (by decide) ?_
            exact hret _ _ _ _ _ dX11_read_68
        · refine jr_aload_n K dX11_read_42 rfl ?_
          refine jr_getI K gf_X11_380 dX11_read_43 (fun v43 => ?_)
          refine jr_goto K (tgt := 68) dX11_read_46 (by decide) ?_
          exact hret _ _ _ _ _ dX11_read_68
      · refine jr_iload_n K dX11_read_34 rfl ?_
        refine jr_goto K (tgt := 68) dX11_read_35 (by decide) ?_
        exact hret _ _ _ _ _ dX11_read_68
    · refine jr_iconst K dX11_read_23 (v := (nI 0)) (by decide) ?_
      exact hret _ _ _ _ _ dX11_read_24
  refine jr_icmp_ge K (tgt := 15) dX11_read_8 (by decide) ?_ ?_
  · refine jr_iconst K dX11_read_15 (v := (nI 0)) (by decide) ?_
    exact jr_weak (hk16 (nI 0)) ⟨rfl, rfl, trivial⟩
  · refine jr_iconst K dX11_read_11 (v := (nI 1)) (by decide) ?_
    refine jr_goto K (tgt := 16) dX11_read_12 (by decide) ?_
    exact jr_weak (hk16 (nI 1)) ⟨rfl, rfl, trivial⟩
theorem metX11_read (hG : jG l D S0 A0) (this : Nat) (p1 : Int32) (Qj : Int32 → JP) : Met l yX11_read (ws_ yX11_read cX11_read 3 (some .int)) (jrm 22 0 0) (va_Pc [.ref this, .int p1] (jB D S0 (JX11_read this p1 Qj))) (va_Qi Qj (fun σ t => jRep D S0.heap.size σ t.heap) (jA S0)) 0 0 (jA S0) :=
  jr_start hG (by decide) (Nat.le_of_ble_eq_true rfl) rfl fun p e s m below meth c K hr hn => wX11_read K _ _ this p1 Qj (fun _ _ _ _ _ d => jr_iret K hr rfl d)
theorem wX11_readNext (K : JK p l R s m args meth c D S0 A0 3 cX11_readNext "MoveNotesModel" 22) (bc bs : Nat) (this : Nat) (p1 : Int32) (Qj : Int32 → JP) (hret : jRetI p l e R s m args below meth c Q D S0 3 cX11_readNext Qj) : JR p l e R s m args below meth c Q D S0 3 bc bs (JX11_readNext this p1 Qj) 0 [some (.ref this), some (.int p1), none] [] := by
  unfold JX11_readNext
  refine jr_aload_n K dX11_readNext_0 rfl ?_
  refine jr_iconst K dX11_readNext_1 (v := (nI 0)) (by decide) ?_
  refine jr_put K pf_X11_3 dX11_readNext_2 rfl rfl ?_
  refine jr_aload_n K dX11_readNext_5 rfl ?_
  refine jr_iload_n K dX11_readNext_6 rfl ?_
  refine jr_iconst K dX11_readNext_7 (v := (-1)) (by decide) ?_
  refine jr_join (fun (k16 : Int32 → JP) => ∀ (s1_16 : Int32), JR p l e R s m args below meth c Q D S0 3 bc bs (k16 s1_16) 16 [some (.ref this), some (.int p1), none] [.int s1_16, .ref this]) ?_ (fun k16 hk16 => ?_)
  · intro s1_16
    refine jr_iconst K dX11_readNext_16 (v := (nI 1)) (by decide) ?_
    refine jr_calli0 (jrun_V (As := [.int s1_16, .int (nI 1)]) (st := []) (ci := 11) K (metX11_throwsIf K.hG this s1_16 (nI 1) _) mtX11_throwsIf mvX11_throwsIf q1748 rfl rfl rfl (Nat.le_of_ble_eq_true rfl) (by decide) ⟨Nat.zero_le _, Nat.zero_le _⟩ dX11_readNext_17) (fun v17 => ?_)
    refine jr_if_eq K (tgt := 25) dX11_readNext_20 (by decide) ?_ ?_
    · refine jr_aload_n K dX11_readNext_25 rfl ?_
      refine jr_calli0 (jrun_V (As := []) (st := []) (ci := 11) K (metX11_asksWhole K.hG this _) mtX11_asksWhole mvX11_asksWhole q1887 rfl rfl rfl (Nat.le_of_ble_eq_true rfl) (by decide) ⟨Nat.zero_le _, Nat.zero_le _⟩ dX11_readNext_26) (fun v26 => ?_)
      refine jr_istore_n K (L' := [some (.ref this), some (.int p1), some (.int v26)]) dX11_readNext_29 (by decide) rfl rfl ?_
      refine jr_iload_n K dX11_readNext_30 rfl ?_
      refine jr_if_ge K (tgt := 38) dX11_readNext_31 (by decide) ?_ ?_
      · refine jr_aload_n K dX11_readNext_38 rfl ?_
        refine jr_getI K gf_X11_374 dX11_readNext_39 (fun v39 => ?_)
        refine jr_iconst K dX11_readNext_42 (v := (nI 2)) (by decide) ?_
        refine jr_icmp_ge K (tgt := 51) dX11_readNext_43 (by decide) ?_ ?_
        · refine jr_iload_n K dX11_readNext_51 rfl ?_
          refine jr_if_ge K (tgt := 62) dX11_readNext_52 (by decide) ?_ ?_
          · refine jr_iload_n K dX11_readNext_62 rfl ?_
            refine jr_aload_n K dX11_readNext_63 rfl ?_
            refine jr_getI K gf_X11_383 dX11_readNext_64 (fun v64 => ?_)
            refine jr_icmp_ge K (tgt := 79) dX11_readNext_67 (by decide) ?_ ?_
            · refine jr_bipush K dX11_readNext_79 (v := (-3)) (by decide) ?_
              exact hret _ _ _ _ _ dX11_readNext_81
            · refine jr_aload_n K dX11_readNext_70 rfl ?_
              refine jr_getA K gf_X11_78 dX11_readNext_71 (fun v71 => ?_)
              refine jr_iload_n K dX11_readNext_74 rfl ?_
              refine jr_iald K dX11_readNext_75 (fun v75 => ?_)
              refine jr_goto K (tgt := 81) dX11_readNext_76 (by decide) ?_
              exact hret _ _ _ _ _ dX11_readNext_81
          · refine jr_aload_n K dX11_readNext_55 rfl ?_
            refine jr_getI K gf_X11_383 dX11_readNext_56 (fun v56 => ?_)
            refine jr_goto K (tgt := 81) dX11_readNext_59 (by decide) ?_
            exact hret _ _ _ _ _ dX11_readNext_81
        · refine jr_bipush K dX11_readNext_46 (v := (-3)) (by decide) ?_
          refine jr_goto K (tgt := 81) dX11_readNext_48 (by decide) ?_
          exact hret _ _ _ _ _ dX11_readNext_81
      · refine jr_iload_n K dX11_readNext_34 rfl ?_
        refine jr_goto K (tgt := 81) dX11_readNext_35 (by decide) ?_
        exact hret _ _ _ _ _ dX11_readNext_81
    · refine jr_iconst K dX11_readNext_23 (v := (nI 0)) (by decide) ?_
      exact hret _ _ _ _ _ dX11_readNext_24
  refine jr_icmp_ge K (tgt := 15) dX11_readNext_8 (by decide) ?_ ?_
  · refine jr_iconst K dX11_readNext_15 (v := (nI 0)) (by decide) ?_
    exact jr_weak (hk16 (nI 0)) ⟨rfl, rfl, trivial⟩
  · refine jr_iconst K dX11_readNext_11 (v := (nI 1)) (by decide) ?_
    refine jr_goto K (tgt := 16) dX11_readNext_12 (by decide) ?_
    exact jr_weak (hk16 (nI 1)) ⟨rfl, rfl, trivial⟩
theorem metX11_readNext (hG : jG l D S0 A0) (this : Nat) (p1 : Int32) (Qj : Int32 → JP) : Met l yX11_readNext (ws_ yX11_readNext cX11_readNext 3 (some .int)) (jrm 22 0 0) (va_Pc [.ref this, .int p1] (jB D S0 (JX11_readNext this p1 Qj))) (va_Qi Qj (fun σ t => jRep D S0.heap.size σ t.heap) (jA S0)) 0 0 (jA S0) :=
  jr_start hG (by decide) (Nat.le_of_ble_eq_true rfl) rfl fun p e s m below meth c K hr hn => wX11_readNext K _ _ this p1 Qj (fun _ _ _ _ _ d => jr_iret K hr rfl d)
theorem wX11_follows_92 (K : JK p l R s m args meth c D S0 A0 5 cX11_follows "MoveNotesModel" 17) (bc bs : Nat) (this : Nat) (p1 : Int32) (Qj : JP) (hret : jRetV p l e R s m args below meth c Q D S0 5 cX11_follows Qj) : ∀ (n : Nat) (x2_92 : Int32) (x3_92 : Int32), JR p l e R s m args below meth c Q D S0 5 bc bs (jit (FX11_follows_92 this p1 Qj) (fun _ _ => jbot) n x2_92 x3_92) 92 [some (.ref this), some (.int p1), some (.int x2_92), some (.int x3_92), none] [] := by
  intro n
  induction n with
  | zero =>
    intro x2_92 x3_92
    exact JR.bot
  | succ n ih92 =>
    intro x2_92 x3_92
    show JR p l e R s m args below meth c Q D S0 5 bc bs (FX11_follows_92 this p1 Qj (jit (FX11_follows_92 this p1 Qj) (fun _ _ => jbot) n) x2_92 x3_92) 92 [some (.ref this), some (.int p1), some (.int x2_92), some (.int x3_92), none] []
    generalize jit (FX11_follows_92 this p1 Qj) (fun _ _ => jbot) n = rec92 at ih92 ⊢
    unfold FX11_follows_92
    refine jr_iload_n K dX11_follows_92 rfl ?_
    refine jr_iload_n K dX11_follows_93 rfl ?_
    refine jr_iadd K dX11_follows_94 ?_
    refine jr_if_le K (tgt := 195) dX11_follows_95 (by decide) ?_ ?_
    · exact hret _ _ _ _ dX11_follows_195
    · refine jr_aload_n K dX11_follows_98 rfl ?_
      refine jr_getA K gf_X11_62 dX11_follows_99 (fun v99 => ?_)
      refine jr_iload_n K dX11_follows_102 rfl ?_
      refine jr_iload_n K dX11_follows_103 rfl ?_
      refine jr_iload_n K dX11_follows_104 rfl ?_
      refine jr_calli0 (jrun_S (As := [.int p1, .int x2_92, .int x3_92]) (st := [.ref v99]) K (metX11_sumAt K.hG p1 x2_92 x3_92 _) mtX11_sumAt q1920 q1919 rfl rfl (Nat.le_of_ble_eq_true rfl) (by decide) ⟨Nat.zero_le _, Nat.zero_le _⟩ dX11_follows_105) (fun v105 => ?_)
      refine jr_iald K dX11_follows_108 (fun v108 => ?_)
      refine jr_istore K (L' := [some (.ref this), some (.int p1), some (.int x2_92), some (.int x3_92), some (.int v108)]) dX11_follows_109 (by decide) rfl rfl ?_
      refine jr_iload K dX11_follows_111 rfl ?_
      refine jr_aload_n K dX11_follows_113 rfl ?_
      refine jr_iload_n K dX11_follows_114 rfl ?_
      refine jr_iload_n K dX11_follows_115 rfl ?_
      refine jr_iload_n K dX11_follows_116 rfl ?_
      refine jr_calli0 (jrun_V (As := [.int x2_92, .int x3_92, .int p1]) (st := [.int v108]) (ci := 11) K (metX11_ofMove K.hG this x2_92 x3_92 p1 _) mtX11_ofMove mvX11_ofMove q1915 rfl rfl rfl (Nat.le_of_ble_eq_true rfl) (by decide) ⟨Nat.zero_le _, Nat.zero_le _⟩ dX11_follows_117) (fun v117 => ?_)
      refine jr_join (fun (k192 : Int32 → Int32 → JP) => ∀ (x2_192 : Int32) (x3_192 : Int32), JR p l e R s m args below meth c Q D S0 5 bc bs (k192 x2_192 x3_192) 192 [some (.ref this), some (.int p1), some (.int x2_192), some (.int x3_192), none] []) ?_ (fun k192 hk192 => ?_)
      · intro x2_192 x3_192
        refine jr_goto K (tgt := 92) dX11_follows_192 (by decide) ?_
        exact jr_weak (ih92 x2_192 x3_192) ⟨rfl, rfl, rfl, rfl, trivial⟩
      refine jr_icmp_ne K (tgt := 156) dX11_follows_120 (by decide) ?_ ?_
      · refine jr_iload K dX11_follows_156 rfl ?_
        refine jr_aload_n K dX11_follows_158 rfl ?_
        refine jr_iload_n K dX11_follows_159 rfl ?_
        refine jr_iload_n K dX11_follows_160 rfl ?_
        refine jr_iload_n K dX11_follows_161 rfl ?_
        refine jr_calli0 (jrun_V (As := [.int x2_92, .int x3_92, .int p1]) (st := [.int v108]) (ci := 11) K (metX11_ofLost K.hG this x2_92 x3_92 p1 _) mtX11_ofLost mvX11_ofLost q1925 rfl rfl rfl (Nat.le_of_ble_eq_true rfl) (by decide) ⟨Nat.zero_le _, Nat.zero_le _⟩ dX11_follows_162) (fun v162 => ?_)
        refine jr_icmp_ne K (tgt := 181) dX11_follows_165 (by decide) ?_ ?_
        · refine jr_iinc K (v := (x3_92 + (-1))) (L' := [some (.ref this), some (.int p1), some (.int x2_92), some (.int (x3_92 + (-1))), some (.int v108)]) dX11_follows_181 rfl rfl (by decide) rfl rfl ?_
          refine jr_aload_n K dX11_follows_184 rfl ?_
          refine jr_getA K gf_X11_87 dX11_follows_185 (fun v185 => ?_)
          refine jr_iload_n K dX11_follows_188 rfl ?_
          refine jr_bipush K dX11_follows_189 (v := (nI 7)) (by decide) ?_
          refine jr_iast K dX11_follows_191 ?_
          exact jr_weak (hk192 x2_92 (x3_92 + (-1))) ⟨rfl, rfl, rfl, rfl, trivial⟩
        · refine jr_iinc K (v := (x2_92 + (-1))) (L' := [some (.ref this), some (.int p1), some (.int (x2_92 + (-1))), some (.int x3_92), some (.int v108)]) dX11_follows_168 rfl rfl (by decide) rfl rfl ?_
          refine jr_aload_n K dX11_follows_171 rfl ?_
          refine jr_getA K gf_X11_90 dX11_follows_172 (fun v172 => ?_)
          refine jr_iload_n K dX11_follows_175 rfl ?_
          refine jr_iconst K dX11_follows_176 (v := (-1)) (by decide) ?_
          refine jr_iast K dX11_follows_177 ?_
          refine jr_goto K (tgt := 192) dX11_follows_178 (by decide) ?_
          exact jr_weak (hk192 (x2_92 + (-1)) x3_92) ⟨rfl, rfl, rfl, rfl, trivial⟩
      · refine jr_iinc K (v := (x2_92 + (-1))) (L' := [some (.ref this), some (.int p1), some (.int (x2_92 + (-1))), some (.int x3_92), some (.int v108)]) dX11_follows_123 rfl rfl (by decide) rfl rfl ?_
        refine jr_iinc K (v := (x3_92 + (-1))) (L' := [some (.ref this), some (.int p1), some (.int (x2_92 + (-1))), some (.int (x3_92 + (-1))), some (.int v108)]) dX11_follows_126 rfl rfl (by decide) rfl rfl ?_
        refine jr_aload_n K dX11_follows_129 rfl ?_
        refine jr_getA K gf_X11_87 dX11_follows_130 (fun v130 => ?_)
        refine jr_iload_n K dX11_follows_133 rfl ?_
        refine jr_aload_n K dX11_follows_134 rfl ?_
        refine jr_getA K gf_X11_59 dX11_follows_135 (fun v135 => ?_)
        refine jr_iload_n K dX11_follows_138 rfl ?_
        refine jr_iload_n K dX11_follows_139 rfl ?_
        refine jr_iload_n K dX11_follows_140 rfl ?_
        refine jr_calli0 (jrun_S (As := [.int (x2_92 + (-1)), .int p1, .int (x3_92 + (-1))]) (st := [.ref v135, .int (x3_92 + (-1)), .ref v130]) K (metX11_fitAt K.hG (x2_92 + (-1)) p1 (x3_92 + (-1)) _) mtX11_fitAt q1923 q1922 rfl rfl (Nat.le_of_ble_eq_true rfl) (by decide) ⟨Nat.zero_le _, Nat.zero_le _⟩ dX11_follows_141) (fun v141 => ?_)
        refine jr_iald K dX11_follows_144 (fun v144 => ?_)
        refine jr_iast K dX11_follows_145 ?_
        refine jr_aload_n K dX11_follows_146 rfl ?_
        refine jr_getA K gf_X11_90 dX11_follows_147 (fun v147 => ?_)
        refine jr_iload_n K dX11_follows_150 rfl ?_
        refine jr_iload_n K dX11_follows_151 rfl ?_
        refine jr_iast K dX11_follows_152 ?_
        refine jr_goto K (tgt := 192) dX11_follows_153 (by decide) ?_
        exact jr_weak (hk192 (x2_92 + (-1)) (x3_92 + (-1))) ⟨rfl, rfl, rfl, rfl, trivial⟩
theorem wX11_follows_45 (K : JK p l R s m args meth c D S0 A0 5 cX11_follows "MoveNotesModel" 17) (bc bs : Nat) (this : Nat) (p1 : Int32) (x2_12 : Int32) (k67 : JP) (hk67 : JR p l e R s m args below meth c Q D S0 5 bc bs k67 67 [some (.ref this), some (.int p1), some (.int x2_12), none, none] []) : ∀ (n : Nat) (x3_45 : Int32), JR p l e R s m args below meth c Q D S0 5 bc bs (jit (FX11_follows_45 this p1 x2_12 k67) (fun _ => jbot) n x3_45) 45 [some (.ref this), some (.int p1), some (.int x2_12), some (.int x3_45), none] [] := by
  intro n
  induction n with
  | zero =>
    intro x3_45
    exact JR.bot
  | succ n ih45 =>
    intro x3_45
    show JR p l e R s m args below meth c Q D S0 5 bc bs (FX11_follows_45 this p1 x2_12 k67 (jit (FX11_follows_45 this p1 x2_12 k67) (fun _ => jbot) n) x3_45) 45 [some (.ref this), some (.int p1), some (.int x2_12), some (.int x3_45), none] []
    generalize jit (FX11_follows_45 this p1 x2_12 k67) (fun _ => jbot) n = rec45 at ih45 ⊢
    unfold FX11_follows_45
    refine jr_iload_n K dX11_follows_45 rfl ?_
    refine jr_aload_n K dX11_follows_46 rfl ?_
    refine jr_iload_n K dX11_follows_47 rfl ?_
    refine jr_calli0 (jrun_V (As := [.int p1]) (st := [.int x3_45]) (ci := 11) K (metX11_notes K.hG this p1 _) mtX11_notes mvX11_notes q1789 rfl rfl rfl (Nat.le_of_ble_eq_true rfl) (by decide) ⟨Nat.zero_le _, Nat.zero_le _⟩ dX11_follows_48) (fun v48 => ?_)
    refine jr_icmp_ge K (tgt := 67) dX11_follows_51 (by decide) ?_ ?_
    · exact jr_weak (hk67) ⟨rfl, rfl, rfl, trivial⟩
    · refine jr_aload_n K dX11_follows_54 rfl ?_
      refine jr_iload_n K dX11_follows_55 rfl ?_
      refine jr_iload_n K dX11_follows_56 rfl ?_
      refine jr_iload_n K dX11_follows_57 rfl ?_
      refine jr_callv0 (jrun_V (As := [.int x2_12, .int p1, .int x3_45]) (st := []) (ci := 11) K (metX11_tries K.hG this x2_12 p1 x3_45 _) mtX11_tries mvX11_tries q1983 rfl rfl rfl (Nat.le_of_ble_eq_true rfl) (by decide) ⟨Nat.zero_le _, Nat.zero_le _⟩ dX11_follows_58) ?_
      refine jr_iinc K (v := (x3_45 + (nI 1))) (L' := [some (.ref this), some (.int p1), some (.int x2_12), some (.int (x3_45 + (nI 1))), none]) dX11_follows_61 rfl rfl (by decide) rfl rfl ?_
      refine jr_goto K (tgt := 45) dX11_follows_64 (by decide) ?_
      exact jr_weak (ih45 (x3_45 + (nI 1))) ⟨rfl, rfl, rfl, rfl, trivial⟩
theorem wX11_follows_12 (K : JK p l R s m args meth c D S0 A0 5 cX11_follows "MoveNotesModel" 17) (bc bs : Nat) (this : Nat) (p1 : Int32) (k81 : JP) (hk81 : JR p l e R s m args below meth c Q D S0 5 bc bs k81 81 [some (.ref this), some (.int p1), none, none, none] []) : ∀ (n : Nat) (x2_12 : Int32), JR p l e R s m args below meth c Q D S0 5 bc bs (jit (FX11_follows_12 this p1 k81) (fun _ => jbot) n x2_12) 12 [some (.ref this), some (.int p1), some (.int x2_12), none, none] [] := by
  intro n
  induction n with
  | zero =>
    intro x2_12
    exact JR.bot
  | succ n ih12 =>
    intro x2_12
    show JR p l e R s m args below meth c Q D S0 5 bc bs (FX11_follows_12 this p1 k81 (jit (FX11_follows_12 this p1 k81) (fun _ => jbot) n) x2_12) 12 [some (.ref this), some (.int p1), some (.int x2_12), none, none] []
    generalize jit (FX11_follows_12 this p1 k81) (fun _ => jbot) n = rec12 at ih12 ⊢
    unfold FX11_follows_12
    refine jr_iload_n K dX11_follows_12 rfl ?_
    refine jr_aload_n K dX11_follows_13 rfl ?_
    refine jr_getI K gf_X11_380 dX11_follows_14 (fun v14 => ?_)
    refine jr_icmp_ge K (tgt := 81) dX11_follows_17 (by decide) ?_ ?_
    · exact jr_weak (hk81) ⟨rfl, rfl, trivial⟩
    · refine jr_aload_n K dX11_follows_20 rfl ?_
      refine jr_getA K gf_X11_53 dX11_follows_21 (fun v21 => ?_)
      refine jr_iload_n K dX11_follows_24 rfl ?_
      refine jr_aload_n K dX11_follows_25 rfl ?_
      refine jr_getA K gf_X11_75 dX11_follows_26 (fun v26 => ?_)
      refine jr_iload_n K dX11_follows_29 rfl ?_
      refine jr_iald K dX11_follows_30 (fun v30 => ?_)
      refine jr_iast K dX11_follows_31 ?_
      refine jr_aload_n K dX11_follows_32 rfl ?_
      refine jr_iload_n K dX11_follows_33 rfl ?_
      refine jr_aload_n K dX11_follows_34 rfl ?_
      refine jr_getA K gf_X11_75 dX11_follows_35 (fun v35 => ?_)
      refine jr_iload_n K dX11_follows_38 rfl ?_
      refine jr_iald K dX11_follows_39 (fun v39 => ?_)
      refine jr_callv0 (jrun_V (As := [.int x2_12, .int v39]) (st := []) (ci := 11) K (metX11_makes K.hG this x2_12 v39 _) mtX11_makes mvX11_makes q1979 rfl rfl rfl (Nat.le_of_ble_eq_true rfl) (by decide) ⟨Nat.zero_le _, Nat.zero_le _⟩ dX11_follows_40) ?_
      refine jr_iconst K dX11_follows_43 (v := (nI 0)) (by decide) ?_
      refine jr_istore_n K (L' := [some (.ref this), some (.int p1), some (.int x2_12), some (.int (nI 0)), none]) dX11_follows_44 (by decide) rfl rfl ?_
      refine jr_ex (fun n45 => ?_)
      refine jr_weak (wX11_follows_45 K bc bs this p1 x2_12 _ ?_ n45 (nI 0)) ⟨rfl, rfl, rfl, rfl, trivial⟩
      · refine jr_aload_n K dX11_follows_67 rfl ?_
        refine jr_iload_n K dX11_follows_68 rfl ?_
        refine jr_iload_n K dX11_follows_69 rfl ?_
        refine jr_iconst K dX11_follows_70 (v := (nI 1)) (by decide) ?_
        refine jr_iadd K dX11_follows_71 ?_
        refine jr_callv0 (jrun_V (As := [.int p1, .int (x2_12 + (nI 1))]) (st := []) (ci := 11) K (metX11_sums K.hG this p1 (x2_12 + (nI 1)) _) mtX11_sums mvX11_sums q1911 rfl rfl rfl (Nat.le_of_ble_eq_true rfl) (by decide) ⟨Nat.zero_le _, Nat.zero_le _⟩ dX11_follows_72) ?_
        refine jr_iinc K (v := (x2_12 + (nI 1))) (L' := [some (.ref this), some (.int p1), some (.int (x2_12 + (nI 1))), none, none]) dX11_follows_75 rfl rfl (by decide) rfl rfl ?_
        refine jr_goto K (tgt := 12) dX11_follows_78 (by decide) ?_
        exact jr_weak (ih12 (x2_12 + (nI 1))) ⟨rfl, rfl, rfl, trivial⟩
theorem wX11_follows (K : JK p l R s m args meth c D S0 A0 5 cX11_follows "MoveNotesModel" 17) (bc bs : Nat) (this : Nat) (p1 : Int32) (Qj : JP) (hret : jRetV p l e R s m args below meth c Q D S0 5 cX11_follows Qj) : JR p l e R s m args below meth c Q D S0 5 bc bs (JX11_follows this p1 Qj) 0 [some (.ref this), some (.int p1), none, none, none] [] := by
  unfold JX11_follows
  refine jr_aload_n K dX11_follows_0 rfl ?_
  refine jr_callv0 (jrun_V (As := []) (st := []) (ci := 11) K (metX11_begins K.hG this _) mtX11_begins mvX11_begins q1837 rfl rfl rfl (Nat.le_of_ble_eq_true rfl) (by decide) ⟨Nat.zero_le _, Nat.zero_le _⟩ dX11_follows_1) ?_
  refine jr_aload_n K dX11_follows_4 rfl ?_
  refine jr_iload_n K dX11_follows_5 rfl ?_
  refine jr_iconst K dX11_follows_6 (v := (nI 0)) (by decide) ?_
  refine jr_callv0 (jrun_V (As := [.int p1, .int (nI 0)]) (st := []) (ci := 11) K (metX11_sums K.hG this p1 (nI 0) _) mtX11_sums mvX11_sums q1911 rfl rfl rfl (Nat.le_of_ble_eq_true rfl) (by decide) ⟨Nat.zero_le _, Nat.zero_le _⟩ dX11_follows_7) ?_
  refine jr_iconst K dX11_follows_10 (v := (nI 0)) (by decide) ?_
  refine jr_istore_n K (L' := [some (.ref this), some (.int p1), some (.int (nI 0)), none, none]) dX11_follows_11 (by decide) rfl rfl ?_
  refine jr_ex (fun n12 => ?_)
  refine jr_weak (wX11_follows_12 K bc bs this p1 _ ?_ n12 (nI 0)) ⟨rfl, rfl, rfl, trivial⟩
  · refine jr_aload_n K dX11_follows_81 rfl ?_
    refine jr_getI K gf_X11_380 dX11_follows_82 (fun v82 => ?_)
    refine jr_istore_n K (L' := [some (.ref this), some (.int p1), some (.int v82), none, none]) dX11_follows_85 (by decide) rfl rfl ?_
    refine jr_aload_n K dX11_follows_86 rfl ?_
    refine jr_iload_n K dX11_follows_87 rfl ?_
    refine jr_calli0 (jrun_V (As := [.int p1]) (st := []) (ci := 11) K (metX11_notes K.hG this p1 _) mtX11_notes mvX11_notes q1789 rfl rfl rfl (Nat.le_of_ble_eq_true rfl) (by decide) ⟨Nat.zero_le _, Nat.zero_le _⟩ dX11_follows_88) (fun v88 => ?_)
    refine jr_istore_n K (L' := [some (.ref this), some (.int p1), some (.int v82), some (.int v88), none]) dX11_follows_91 (by decide) rfl rfl ?_
    refine jr_ex (fun n92 => ?_)
    refine jr_weak (wX11_follows_92 K bc bs this p1 Qj hret n92 v82 v88) ⟨rfl, rfl, rfl, rfl, trivial⟩
theorem metX11_follows (hG : jG l D S0 A0) (this : Nat) (p1 : Int32) (Qj : JP) : Met l yX11_follows (ws_ yX11_follows cX11_follows 5 none) (jrm 17 0 0) (va_Pc [.ref this, .int p1] (jB D S0 (JX11_follows this p1 Qj))) (va_Qv Qj (fun σ t => jRep D S0.heap.size σ t.heap) (jA S0)) 0 0 (jA S0) :=
  jr_start hG (by decide) (Nat.le_of_ble_eq_true rfl) rfl fun p e s m below meth c K hr hn => wX11_follows K _ _ this p1 Qj (fun _ _ _ _ d => jr_vret K hr d)
theorem wX11_slip (K : JK p l R s m args meth c D S0 A0 4 cX11_slip "MoveNotesModel" 22) (bc bs : Nat) (this : Nat) (p1 : Int32) (p2 : Int32) (Qj : Int32 → JP) (hret : jRetI p l e R s m args below meth c Q D S0 4 cX11_slip Qj) : JR p l e R s m args below meth c Q D S0 4 bc bs (JX11_slip this p1 p2 Qj) 0 [some (.ref this), some (.int p1), some (.int p2), none] [] := by
  unfold JX11_slip
  refine jr_aload_n K dX11_slip_0 rfl ?_
  refine jr_iconst K dX11_slip_1 (v := (nI 0)) (by decide) ?_
  refine jr_put K pf_X11_3 dX11_slip_2 rfl rfl ?_
  refine jr_aload_n K dX11_slip_5 rfl ?_
  refine jr_aload_n K dX11_slip_6 rfl ?_
  refine jr_iload_n K dX11_slip_7 rfl ?_
  refine jr_iload_n K dX11_slip_8 rfl ?_
  refine jr_calli0 (jrun_V (As := [.int p1, .int p2]) (st := [.ref this]) (ci := 11) K (metX11_noNote K.hG this p1 p2 _) mtX11_noNote mvX11_noNote q1809 rfl rfl rfl (Nat.le_of_ble_eq_true rfl) (by decide) ⟨Nat.zero_le _, Nat.zero_le _⟩ dX11_slip_9) (fun v9 => ?_)
  refine jr_iconst K dX11_slip_12 (v := (nI 1)) (by decide) ?_
  refine jr_calli0 (jrun_V (As := [.int v9, .int (nI 1)]) (st := []) (ci := 11) K (metX11_throwsIf K.hG this v9 (nI 1) _) mtX11_throwsIf mvX11_throwsIf q1748 rfl rfl rfl (Nat.le_of_ble_eq_true rfl) (by decide) ⟨Nat.zero_le _, Nat.zero_le _⟩ dX11_slip_13) (fun v13 => ?_)
  refine jr_if_eq K (tgt := 21) dX11_slip_16 (by decide) ?_ ?_
  · refine jr_aload_n K dX11_slip_21 rfl ?_
    refine jr_calli0 (jrun_V (As := []) (st := []) (ci := 11) K (metX11_asksWhole K.hG this _) mtX11_asksWhole mvX11_asksWhole q1887 rfl rfl rfl (Nat.le_of_ble_eq_true rfl) (by decide) ⟨Nat.zero_le _, Nat.zero_le _⟩ dX11_slip_22) (fun v22 => ?_)
    refine jr_istore_n K (L' := [some (.ref this), some (.int p1), some (.int p2), some (.int v22)]) dX11_slip_25 (by decide) rfl rfl ?_
    refine jr_iload_n K dX11_slip_26 rfl ?_
    refine jr_if_ge K (tgt := 32) dX11_slip_27 (by decide) ?_ ?_
    · refine jr_aload_n K dX11_slip_32 rfl ?_
      refine jr_iload_n K dX11_slip_33 rfl ?_
      refine jr_callv0 (jrun_V (As := [.int p1]) (st := []) (ci := 11) K (metX11_follows K.hG this p1 _) mtX11_follows mvX11_follows q2007 rfl rfl rfl (Nat.le_of_ble_eq_true rfl) (by decide) ⟨Nat.zero_le _, Nat.zero_le _⟩ dX11_slip_34) ?_
      refine jr_aload_n K dX11_slip_37 rfl ?_
      refine jr_getA K gf_X11_87 dX11_slip_38 (fun v38 => ?_)
      refine jr_iload_n K dX11_slip_41 rfl ?_
      refine jr_iald K dX11_slip_42 (fun v42 => ?_)
      exact hret _ _ _ _ _ dX11_slip_43
    · refine jr_iload_n K dX11_slip_30 rfl ?_
      exact hret _ _ _ _ _ dX11_slip_31
  · refine jr_iconst K dX11_slip_19 (v := (nI 0)) (by decide) ?_
    exact hret _ _ _ _ _ dX11_slip_20
theorem metX11_slip (hG : jG l D S0 A0) (this : Nat) (p1 : Int32) (p2 : Int32) (Qj : Int32 → JP) : Met l yX11_slip (ws_ yX11_slip cX11_slip 4 (some .int)) (jrm 22 0 0) (va_Pc [.ref this, .int p1, .int p2] (jB D S0 (JX11_slip this p1 p2 Qj))) (va_Qi Qj (fun σ t => jRep D S0.heap.size σ t.heap) (jA S0)) 0 0 (jA S0) :=
  jr_start hG (by decide) (Nat.le_of_ble_eq_true rfl) rfl fun p e s m below meth c K hr hn => wX11_slip K _ _ this p1 p2 Qj (fun _ _ _ _ _ d => jr_iret K hr rfl d)
theorem wX11_slips_100 (K : JK p l R s m args meth c D S0 A0 6 cX11_slips "MoveNotesModel" 22) (bc bs : Nat) (this : Nat) (p2 : Int32) (Qj : Int32 → JP) (hret : jRetI p l e R s m args below meth c Q D S0 6 cX11_slips Qj) : ∀ (n : Nat) (x4_100 : Int32) (x5_100 : Int32), JR p l e R s m args below meth c Q D S0 6 bc bs (jit (FX11_slips_100 this p2 Qj) (fun _ _ => jbot) n x4_100 x5_100) 100 [some (.ref this), none, some (.int p2), none, some (.int x4_100), some (.int x5_100)] [] := by
  intro n
  induction n with
  | zero =>
    intro x4_100 x5_100
    exact JR.bot
  | succ n ih100 =>
    intro x4_100 x5_100
    show JR p l e R s m args below meth c Q D S0 6 bc bs (FX11_slips_100 this p2 Qj (jit (FX11_slips_100 this p2 Qj) (fun _ _ => jbot) n) x4_100 x5_100) 100 [some (.ref this), none, some (.int p2), none, some (.int x4_100), some (.int x5_100)] []
    generalize jit (FX11_slips_100 this p2 Qj) (fun _ _ => jbot) n = rec100 at ih100 ⊢
    unfold FX11_slips_100
    refine jr_iload K dX11_slips_100 rfl ?_
    refine jr_aload_n K dX11_slips_102 rfl ?_
    refine jr_getI K gf_X11_380 dX11_slips_103 (fun v103 => ?_)
    refine jr_icmp_ge K (tgt := 141) dX11_slips_106 (by decide) ?_ ?_
    · refine jr_iload K dX11_slips_141 rfl ?_
      exact hret _ _ _ _ _ dX11_slips_143
    · refine jr_iload_n K dX11_slips_109 rfl ?_
      refine jr_bipush K dX11_slips_110 (v := (nI 6)) (by decide) ?_
      refine jr_icmp_ne K (tgt := 141) dX11_slips_112 (by decide) ?_ ?_
      · refine jr_iload K dX11_slips_141 rfl ?_
        exact hret _ _ _ _ _ dX11_slips_143
      · refine jr_iload K dX11_slips_115 rfl ?_
        refine jr_aload_n K dX11_slips_117 rfl ?_
        refine jr_getA K gf_X11_90 dX11_slips_118 (fun v118 => ?_)
        refine jr_iload K dX11_slips_121 rfl ?_
        refine jr_iald K dX11_slips_123 (fun v123 => ?_)
        refine jr_join (fun (k132 : Int32 → JP) => ∀ (s1_132 : Int32), JR p l e R s m args below meth c Q D S0 6 bc bs (k132 s1_132) 132 [some (.ref this), none, some (.int p2), none, none, some (.int x5_100)] [.int s1_132, .int x4_100]) ?_ (fun k132 hk132 => ?_)
        · intro s1_132
          refine jr_iadd K dX11_slips_132 ?_
          refine jr_istore K (L' := [some (.ref this), none, some (.int p2), none, some (.int (x4_100 + s1_132)), some (.int x5_100)]) dX11_slips_133 (by decide) rfl rfl ?_
          refine jr_iinc K (v := (x5_100 + (nI 1))) (L' := [some (.ref this), none, some (.int p2), none, some (.int (x4_100 + s1_132)), some (.int (x5_100 + (nI 1)))]) dX11_slips_135 rfl rfl (by decide) rfl rfl ?_
          refine jr_goto K (tgt := 100) dX11_slips_138 (by decide) ?_
          exact jr_weak (ih100 (x4_100 + s1_132) (x5_100 + (nI 1))) ⟨rfl, rfl, rfl, rfl, trivial⟩
        refine jr_if_ge K (tgt := 131) dX11_slips_124 (by decide) ?_ ?_
        · refine jr_iconst K dX11_slips_131 (v := (nI 0)) (by decide) ?_
          exact jr_weak (hk132 (nI 0)) ⟨rfl, rfl, rfl, trivial⟩
        · refine jr_iconst K dX11_slips_127 (v := (nI 1)) (by decide) ?_
          refine jr_goto K (tgt := 132) dX11_slips_128 (by decide) ?_
          exact jr_weak (hk132 (nI 1)) ⟨rfl, rfl, rfl, trivial⟩
theorem wX11_slips_60 (K : JK p l R s m args meth c D S0 A0 6 cX11_slips "MoveNotesModel" 22) (bc bs : Nat) (this : Nat) (p1 : Int32) (p2 : Int32) (k97 : Int32 → JP) (hk97 : ∀ (y4_97 : Int32), JR p l e R s m args below meth c Q D S0 6 bc bs (k97 y4_97) 97 [some (.ref this), none, some (.int p2), none, some (.int y4_97), none] []) : ∀ (n : Nat) (x4_60 : Int32) (x5_60 : Int32), JR p l e R s m args below meth c Q D S0 6 bc bs (jit (FX11_slips_60 this p1 p2 k97) (fun _ _ => jbot) n x4_60 x5_60) 60 [some (.ref this), some (.int p1), some (.int p2), none, some (.int x4_60), some (.int x5_60)] [] := by
  intro n
  induction n with
  | zero =>
    intro x4_60 x5_60
    exact JR.bot
  | succ n ih60 =>
    intro x4_60 x5_60
    show JR p l e R s m args below meth c Q D S0 6 bc bs (FX11_slips_60 this p1 p2 k97 (jit (FX11_slips_60 this p1 p2 k97) (fun _ _ => jbot) n) x4_60 x5_60) 60 [some (.ref this), some (.int p1), some (.int p2), none, some (.int x4_60), some (.int x5_60)] []
    generalize jit (FX11_slips_60 this p1 p2 k97) (fun _ _ => jbot) n = rec60 at ih60 ⊢
    unfold FX11_slips_60
    refine jr_iload K dX11_slips_60 rfl ?_
    refine jr_aload_n K dX11_slips_62 rfl ?_
    refine jr_iload_n K dX11_slips_63 rfl ?_
    refine jr_calli0 (jrun_V (As := [.int p1]) (st := [.int x5_60]) (ci := 11) K (metX11_notes K.hG this p1 _) mtX11_notes mvX11_notes q1789 rfl rfl rfl (Nat.le_of_ble_eq_true rfl) (by decide) ⟨Nat.zero_le _, Nat.zero_le _⟩ dX11_slips_64) (fun v64 => ?_)
    refine jr_icmp_ge K (tgt := 97) dX11_slips_67 (by decide) ?_ ?_
    · exact jr_weak (hk97 x4_60) ⟨rfl, rfl, rfl, trivial⟩
    · refine jr_iload K dX11_slips_70 rfl ?_
      refine jr_aload_n K dX11_slips_72 rfl ?_
      refine jr_getA K gf_X11_87 dX11_slips_73 (fun v73 => ?_)
      refine jr_iload K dX11_slips_76 rfl ?_
      refine jr_iald K dX11_slips_78 (fun v78 => ?_)
      refine jr_iload_n K dX11_slips_79 rfl ?_
      refine jr_join (fun (k88 : Int32 → JP) => ∀ (s1_88 : Int32), JR p l e R s m args below meth c Q D S0 6 bc bs (k88 s1_88) 88 [some (.ref this), some (.int p1), some (.int p2), none, none, some (.int x5_60)] [.int s1_88, .int x4_60]) ?_ (fun k88 hk88 => ?_)
      · intro s1_88
        refine jr_iadd K dX11_slips_88 ?_
        refine jr_istore K (L' := [some (.ref this), some (.int p1), some (.int p2), none, some (.int (x4_60 + s1_88)), some (.int x5_60)]) dX11_slips_89 (by decide) rfl rfl ?_
        refine jr_iinc K (v := (x5_60 + (nI 1))) (L' := [some (.ref this), some (.int p1), some (.int p2), none, some (.int (x4_60 + s1_88)), some (.int (x5_60 + (nI 1)))]) dX11_slips_91 rfl rfl (by decide) rfl rfl ?_
        refine jr_goto K (tgt := 60) dX11_slips_94 (by decide) ?_
        exact jr_weak (ih60 (x4_60 + s1_88) (x5_60 + (nI 1))) ⟨rfl, rfl, rfl, rfl, rfl, trivial⟩
      refine jr_icmp_ne K (tgt := 87) dX11_slips_80 (by decide) ?_ ?_
      · refine jr_iconst K dX11_slips_87 (v := (nI 0)) (by decide) ?_
        exact jr_weak (hk88 (nI 0)) ⟨rfl, rfl, rfl, rfl, trivial⟩
      · refine jr_iconst K dX11_slips_83 (v := (nI 1)) (by decide) ?_
        refine jr_goto K (tgt := 88) dX11_slips_84 (by decide) ?_
        exact jr_weak (hk88 (nI 1)) ⟨rfl, rfl, rfl, rfl, trivial⟩
theorem wX11_slips (K : JK p l R s m args meth c D S0 A0 6 cX11_slips "MoveNotesModel" 22) (bc bs : Nat) (this : Nat) (p1 : Int32) (p2 : Int32) (Qj : Int32 → JP) (hret : jRetI p l e R s m args below meth c Q D S0 6 cX11_slips Qj) : JR p l e R s m args below meth c Q D S0 6 bc bs (JX11_slips this p1 p2 Qj) 0 [some (.ref this), some (.int p1), some (.int p2), none, none, none] [] := by
  unfold JX11_slips
  refine jr_aload_n K dX11_slips_0 rfl ?_
  refine jr_iconst K dX11_slips_1 (v := (nI 0)) (by decide) ?_
  refine jr_put K pf_X11_3 dX11_slips_2 rfl rfl ?_
  refine jr_aload_n K dX11_slips_5 rfl ?_
  refine jr_aload_n K dX11_slips_6 rfl ?_
  refine jr_iload_n K dX11_slips_7 rfl ?_
  refine jr_calli0 (jrun_V (As := [.int p1]) (st := [.ref this]) (ci := 11) K (metX11_noBook K.hG this p1 _) mtX11_noBook mvX11_noBook q1782 rfl rfl rfl (Nat.le_of_ble_eq_true rfl) (by decide) ⟨Nat.zero_le _, Nat.zero_le _⟩ dX11_slips_8) (fun v8 => ?_)
  refine jr_join (fun (k29 : Int32 → JP) => ∀ (s1_29 : Int32), JR p l e R s m args below meth c Q D S0 6 bc bs (k29 s1_29) 29 [some (.ref this), some (.int p1), some (.int p2), none, none, none] [.int s1_29, .ref this]) ?_ (fun k29 hk29 => ?_)
  · intro s1_29
    refine jr_iconst K dX11_slips_29 (v := (nI 1)) (by decide) ?_
    refine jr_calli0 (jrun_V (As := [.int s1_29, .int (nI 1)]) (st := []) (ci := 11) K (metX11_throwsIf K.hG this s1_29 (nI 1) _) mtX11_throwsIf mvX11_throwsIf q1748 rfl rfl rfl (Nat.le_of_ble_eq_true rfl) (by decide) ⟨Nat.zero_le _, Nat.zero_le _⟩ dX11_slips_30) (fun v30 => ?_)
    refine jr_if_eq K (tgt := 38) dX11_slips_33 (by decide) ?_ ?_
    · refine jr_aload_n K dX11_slips_38 rfl ?_
      refine jr_calli0 (jrun_V (As := []) (st := []) (ci := 11) K (metX11_asksWhole K.hG this _) mtX11_asksWhole mvX11_asksWhole q1887 rfl rfl rfl (Nat.le_of_ble_eq_true rfl) (by decide) ⟨Nat.zero_le _, Nat.zero_le _⟩ dX11_slips_39) (fun v39 => ?_)
      refine jr_istore_n K (L' := [some (.ref this), some (.int p1), some (.int p2), some (.int v39), none, none]) dX11_slips_42 (by decide) rfl rfl ?_
      refine jr_iload_n K dX11_slips_43 rfl ?_
      refine jr_if_ge K (tgt := 49) dX11_slips_44 (by decide) ?_ ?_
      · refine jr_aload_n K dX11_slips_49 rfl ?_
        refine jr_iload_n K dX11_slips_50 rfl ?_
        refine jr_callv0 (jrun_V (As := [.int p1]) (st := []) (ci := 11) K (metX11_follows K.hG this p1 _) mtX11_follows mvX11_follows q2007 rfl rfl rfl (Nat.le_of_ble_eq_true rfl) (by decide) ⟨Nat.zero_le _, Nat.zero_le _⟩ dX11_slips_51) ?_
        refine jr_iconst K dX11_slips_54 (v := (nI 0)) (by decide) ?_
        refine jr_istore K (L' := [some (.ref this), some (.int p1), some (.int p2), some (.int v39), some (.int (nI 0)), none]) dX11_slips_55 (by decide) rfl rfl ?_
        refine jr_iconst K dX11_slips_57 (v := (nI 0)) (by decide) ?_
        refine jr_istore K (L' := [some (.ref this), some (.int p1), some (.int p2), some (.int v39), some (.int (nI 0)), some (.int (nI 0))]) dX11_slips_58 (by decide) rfl rfl ?_
        refine jr_ex (fun n60 => ?_)
        refine jr_weak (wX11_slips_60 K bc bs this p1 p2 _ ?_ n60 (nI 0) (nI 0)) ⟨rfl, rfl, rfl, rfl, rfl, trivial⟩
        · intro y4_97
          refine jr_iconst K dX11_slips_97 (v := (nI 0)) (by decide) ?_
          refine jr_istore K (L' := [some (.ref this), none, some (.int p2), none, some (.int y4_97), some (.int (nI 0))]) dX11_slips_98 (by decide) rfl rfl ?_
          refine jr_ex (fun n100 => ?_)
          refine jr_weak (wX11_slips_100 K bc bs this p2 Qj hret n100 y4_97 (nI 0)) ⟨rfl, rfl, rfl, rfl, trivial⟩
      · refine jr_iload_n K dX11_slips_47 rfl ?_
        exact hret _ _ _ _ _ dX11_slips_48
    · refine jr_iconst K dX11_slips_36 (v := (nI 0)) (by decide) ?_
      exact hret _ _ _ _ _ dX11_slips_37
  refine jr_join (fun (k24 : JP) => JR p l e R s m args below meth c Q D S0 6 bc bs k24 24 [some (.ref this), some (.int p1), some (.int p2), none, none, none] [.ref this]) ?_ (fun k24 hk24 => ?_)
  · refine jr_iconst K dX11_slips_24 (v := (nI 1)) (by decide) ?_
    refine jr_goto K (tgt := 29) dX11_slips_25 (by decide) ?_
    exact jr_weak (hk29 (nI 1)) ⟨rfl, rfl, rfl, trivial⟩
  refine jr_if_ne K (tgt := 24) dX11_slips_11 (by decide) ?_ ?_
  · exact jr_weak (hk24) ⟨rfl, rfl, rfl, trivial⟩
  · refine jr_iload_n K dX11_slips_14 rfl ?_
    refine jr_iconst K dX11_slips_15 (v := (nI 1)) (by decide) ?_
    refine jr_bipush K dX11_slips_16 (v := (nI 7)) (by decide) ?_
    refine jr_calli0 (jrun_S (As := [.int p2, .int (nI 1), .int (nI 7)]) (st := [.ref this]) K (metX11_in K.hG p2 (nI 1) (nI 7) _) mtX11_in q1746 q1745 rfl rfl (Nat.le_of_ble_eq_true rfl) (by decide) ⟨Nat.zero_le _, Nat.zero_le _⟩ dX11_slips_18) (fun v18 => ?_)
    refine jr_if_ne K (tgt := 28) dX11_slips_21 (by decide) ?_ ?_
    · refine jr_iconst K dX11_slips_28 (v := (nI 0)) (by decide) ?_
      exact jr_weak (hk29 (nI 0)) ⟨rfl, rfl, rfl, trivial⟩
    · exact jr_weak (hk24) ⟨rfl, rfl, rfl, trivial⟩
theorem metX11_slips (hG : jG l D S0 A0) (this : Nat) (p1 : Int32) (p2 : Int32) (Qj : Int32 → JP) : Met l yX11_slips (ws_ yX11_slips cX11_slips 6 (some .int)) (jrm 22 0 0) (va_Pc [.ref this, .int p1, .int p2] (jB D S0 (JX11_slips this p1 p2 Qj))) (va_Qi Qj (fun σ t => jRep D S0.heap.size σ t.heap) (jA S0)) 0 0 (jA S0) :=
  jr_start hG (by decide) (Nat.le_of_ble_eq_true rfl) rfl fun p e s m below meth c K hr hn => wX11_slips K _ _ this p1 p2 Qj (fun _ _ _ _ _ d => jr_iret K hr rfl d)
theorem wX11_breaks_33 (K : JK p l R s m args meth c D S0 A0 3 cX11_breaks "MoveNotesModel" 20) (bc bs : Nat) (this : Nat) (p1 : Int32) (k52 : JP) (hk52 : JR p l e R s m args below meth c Q D S0 3 bc bs k52 52 [some (.ref this), some (.int p1), none] []) : ∀ (n : Nat) (x2_33 : Int32), JR p l e R s m args below meth c Q D S0 3 bc bs (jit (FX11_breaks_33 this k52) (fun _ => jbot) n x2_33) 33 [some (.ref this), some (.int p1), some (.int x2_33)] [] := by
  intro n
  induction n with
  | zero =>
    intro x2_33
    exact JR.bot
  | succ n ih33 =>
    intro x2_33
    show JR p l e R s m args below meth c Q D S0 3 bc bs (FX11_breaks_33 this k52 (jit (FX11_breaks_33 this k52) (fun _ => jbot) n) x2_33) 33 [some (.ref this), some (.int p1), some (.int x2_33)] []
    generalize jit (FX11_breaks_33 this k52) (fun _ => jbot) n = rec33 at ih33 ⊢
    unfold FX11_breaks_33
    refine jr_iload_n K dX11_breaks_33 rfl ?_
    refine jr_bipush K dX11_breaks_34 (v := (nI 8)) (by decide) ?_
    refine jr_icmp_ge K (tgt := 52) dX11_breaks_36 (by decide) ?_ ?_
    · exact jr_weak (hk52) ⟨rfl, rfl, trivial⟩
    · refine jr_aload_n K dX11_breaks_39 rfl ?_
      refine jr_getA K gf_X11_50 dX11_breaks_40 (fun v40 => ?_)
      refine jr_iload_n K dX11_breaks_43 rfl ?_
      refine jr_iconst K dX11_breaks_44 (v := (nI 0)) (by decide) ?_
      refine jr_iast K dX11_breaks_45 ?_
      refine jr_iinc K (v := (x2_33 + (nI 1))) (L' := [some (.ref this), some (.int p1), some (.int (x2_33 + (nI 1)))]) dX11_breaks_46 rfl rfl (by decide) rfl rfl ?_
      refine jr_goto K (tgt := 33) dX11_breaks_49 (by decide) ?_
      exact jr_weak (ih33 (x2_33 + (nI 1))) ⟨rfl, rfl, rfl, trivial⟩
theorem wX11_breaks (K : JK p l R s m args meth c D S0 A0 3 cX11_breaks "MoveNotesModel" 20) (bc bs : Nat) (this : Nat) (p1 : Int32) (Qj : Int32 → JP) (hret : jRetI p l e R s m args below meth c Q D S0 3 cX11_breaks Qj) : JR p l e R s m args below meth c Q D S0 3 bc bs (JX11_breaks this p1 Qj) 0 [some (.ref this), some (.int p1), none] [] := by
  unfold JX11_breaks
  refine jr_aload_n K dX11_breaks_0 rfl ?_
  refine jr_iconst K dX11_breaks_1 (v := (nI 0)) (by decide) ?_
  refine jr_put K pf_X11_3 dX11_breaks_2 rfl rfl ?_
  refine jr_aload_n K dX11_breaks_5 rfl ?_
  refine jr_aload_n K dX11_breaks_6 rfl ?_
  refine jr_iload_n K dX11_breaks_7 rfl ?_
  refine jr_calli0 (jrun_V (As := [.int p1]) (st := [.ref this]) (ci := 11) K (metX11_noBook K.hG this p1 _) mtX11_noBook mvX11_noBook q1782 rfl rfl rfl (Nat.le_of_ble_eq_true rfl) (by decide) ⟨Nat.zero_le _, Nat.zero_le _⟩ dX11_breaks_8) (fun v8 => ?_)
  refine jr_iconst K dX11_breaks_11 (v := (nI 1)) (by decide) ?_
  refine jr_calli0 (jrun_V (As := [.int v8, .int (nI 1)]) (st := []) (ci := 11) K (metX11_throwsIf K.hG this v8 (nI 1) _) mtX11_throwsIf mvX11_throwsIf q1748 rfl rfl rfl (Nat.le_of_ble_eq_true rfl) (by decide) ⟨Nat.zero_le _, Nat.zero_le _⟩ dX11_breaks_12) (fun v12 => ?_)
  refine jr_if_eq K (tgt := 20) dX11_breaks_15 (by decide) ?_ ?_
  · refine jr_aload_n K dX11_breaks_20 rfl ?_
    refine jr_callv0 (jrun_V (As := []) (st := []) (ci := 11) K (metX11_asksAll K.hG this _) mtX11_asksAll mvX11_asksAll q1891 rfl rfl rfl (Nat.le_of_ble_eq_true rfl) (by decide) ⟨Nat.zero_le _, Nat.zero_le _⟩ dX11_breaks_21) ?_
    refine jr_aload_n K dX11_breaks_24 rfl ?_
    refine jr_iconst K dX11_breaks_25 (v := (nI 1)) (by decide) ?_
    refine jr_iload_n K dX11_breaks_26 rfl ?_
    refine jr_ishl K dX11_breaks_27 ?_
    refine jr_put K pf_X11_314 dX11_breaks_28 rfl rfl ?_
    refine jr_iconst K dX11_breaks_31 (v := (nI 0)) (by decide) ?_
    refine jr_istore_n K (L' := [some (.ref this), some (.int p1), some (.int (nI 0))]) dX11_breaks_32 (by decide) rfl rfl ?_
    refine jr_ex (fun n33 => ?_)
    refine jr_weak (wX11_breaks_33 K bc bs this p1 _ ?_ n33 (nI 0)) ⟨rfl, rfl, rfl, trivial⟩
    · refine jr_aload_n K dX11_breaks_52 rfl ?_
      refine jr_iconst K dX11_breaks_53 (v := (nI 0)) (by decide) ?_
      refine jr_put K pf_X11_398 dX11_breaks_54 rfl rfl ?_
      refine jr_aload_n K dX11_breaks_57 rfl ?_
      refine jr_iconst K dX11_breaks_58 (v := (nI 0)) (by decide) ?_
      refine jr_putZ K pf_X11_401 dX11_breaks_59 ?_
      refine jr_aload_n K dX11_breaks_62 rfl ?_
      refine jr_iconst K dX11_breaks_63 (v := (nI 1)) (by decide) ?_
      refine jr_putZ K pf_X11_359 dX11_breaks_64 ?_
      refine jr_aload_n K dX11_breaks_67 rfl ?_
      refine jr_bipush K dX11_breaks_68 (v := (nI 30)) (by decide) ?_
      refine jr_put K pf_X11_368 dX11_breaks_70 rfl rfl ?_
      refine jr_aload_n K dX11_breaks_73 rfl ?_
      refine jr_iconst K dX11_breaks_74 (v := (nI 0)) (by decide) ?_
      refine jr_callv0 (jrun_V (As := [.int (nI 0)]) (st := []) (ci := 11) K (metX11_laysAll K.hG this (nI 0) _) mtX11_laysAll mvX11_laysAll q1899 rfl rfl rfl (Nat.le_of_ble_eq_true rfl) (by decide) ⟨Nat.zero_le _, Nat.zero_le _⟩ dX11_breaks_75) ?_
      refine jr_aload_n K dX11_breaks_78 rfl ?_
      refine jr_getI K gf_X11_401 dX11_breaks_79 (fun v79 => ?_)
      refine jr_if_eq K (tgt := 90) dX11_breaks_82 (by decide) ?_ ?_
      · refine jr_aload_n K dX11_breaks_90 rfl ?_
        refine jr_getI K gf_X11_404 dX11_breaks_91 (fun v91 => ?_)
        refine jr_aload_n K dX11_breaks_94 rfl ?_
        refine jr_iload_n K dX11_breaks_95 rfl ?_
        refine jr_calli0 (jrun_V (As := [.int p1]) (st := [.int v91]) (ci := 11) K (metX11_notes K.hG this p1 _) mtX11_notes mvX11_notes q1789 rfl rfl rfl (Nat.le_of_ble_eq_true rfl) (by decide) ⟨Nat.zero_le _, Nat.zero_le _⟩ dX11_breaks_96) (fun v96 => ?_)
        refine jr_icmp_ne K (tgt := 107) dX11_breaks_99 (by decide) ?_ ?_
        · refine jr_aload_n K dX11_breaks_107 rfl ?_
          refine jr_getI K gf_X11_404 dX11_breaks_108 (fun v108 => ?_)
          exact hret _ _ _ _ _ dX11_breaks_111
        · refine jr_bipush K dX11_breaks_102 (v := (-3)) (by decide) ?_
          refine jr_goto K (tgt := 111) dX11_breaks_104 (by decide) ?_
          exact hret _ _ _ _ _ dX11_breaks_111
      · refine jr_bipush K dX11_breaks_85 (v := (-2)) (by decide) ?_
        refine jr_goto K (tgt := 111) dX11_breaks_87 (by decide) ?_
        exact hret _ _ _ _ _ dX11_breaks_111
  · refine jr_iconst K dX11_breaks_18 (v := (nI 0)) (by decide) ?_
    exact hret _ _ _ _ _ dX11_breaks_19
theorem metX11_breaks (hG : jG l D S0 A0) (this : Nat) (p1 : Int32) (Qj : Int32 → JP) : Met l yX11_breaks (ws_ yX11_breaks cX11_breaks 3 (some .int)) (jrm 20 0 0) (va_Pc [.ref this, .int p1] (jB D S0 (JX11_breaks this p1 Qj))) (va_Qi Qj (fun σ t => jRep D S0.heap.size σ t.heap) (jA S0)) 0 0 (jA S0) :=
  jr_start hG (by decide) (Nat.le_of_ble_eq_true rfl) rfl fun p e s m below meth c K hr hn => wX11_breaks K _ _ this p1 Qj (fun _ _ _ _ _ d => jr_iret K hr rfl d)
theorem wX11_brief_105 (K : JK p l R s m args meth c D S0 A0 6 cX11_brief "MoveNotesModel" 22) (bc bs : Nat) (this : Nat) (p1 : Int32) (Qj : Int32 → JP) (v93 : Int32) (hret : jRetI p l e R s m args below meth c Q D S0 6 cX11_brief Qj) : ∀ (n : Nat) (x4_105 : Int32) (x5_105 : Int32), JR p l e R s m args below meth c Q D S0 6 bc bs (jit (FX11_brief_105 this p1 Qj v93) (fun _ _ => jbot) n x4_105 x5_105) 105 [some (.ref this), some (.int p1), none, some (.int (v93 / (nI 2))), some (.int x4_105), some (.int x5_105)] [] := by
  intro n
  induction n with
  | zero =>
    intro x4_105 x5_105
    exact JR.bot
  | succ n ih105 =>
    intro x4_105 x5_105
    show JR p l e R s m args below meth c Q D S0 6 bc bs (FX11_brief_105 this p1 Qj v93 (jit (FX11_brief_105 this p1 Qj v93) (fun _ _ => jbot) n) x4_105 x5_105) 105 [some (.ref this), some (.int p1), none, some (.int (v93 / (nI 2))), some (.int x4_105), some (.int x5_105)] []
    generalize jit (FX11_brief_105 this p1 Qj v93) (fun _ _ => jbot) n = rec105 at ih105 ⊢
    unfold FX11_brief_105
    refine jr_iload K dX11_brief_105 rfl ?_
    refine jr_bipush K dX11_brief_107 (v := (nI 36)) (by decide) ?_
    refine jr_icmp_ge K (tgt := 170) dX11_brief_109 (by decide) ?_ ?_
    · refine jr_iload K dX11_brief_170 rfl ?_
      exact hret _ _ _ _ _ dX11_brief_172
    · refine jr_iload K dX11_brief_112 rfl ?_
      refine jr_aload_n K dX11_brief_114 rfl ?_
      refine jr_getA K gf_X11_43 dX11_brief_115 (fun v115 => ?_)
      refine jr_sipush K dX11_brief_118 (v := (nI 1296)) (by decide) ?_
      refine jr_iload_n K dX11_brief_121 rfl ?_
      refine jr_imul K dX11_brief_122 ?_
      refine jr_bipush K dX11_brief_123 (v := (nI 36)) (by decide) ?_
      refine jr_iload K dX11_brief_125 rfl ?_
      refine jr_imul K dX11_brief_127 ?_
      refine jr_iadd K dX11_brief_128 ?_
      refine jr_aload_n K dX11_brief_129 rfl ?_
      refine jr_getA K gf_X11_75 dX11_brief_130 (fun v130 => ?_)
      refine jr_iload_n K dX11_brief_133 rfl ?_
      refine jr_iald K dX11_brief_134 (fun v134 => ?_)
      refine jr_bipush K dX11_brief_135 (v := (nI 36)) (by decide) ?_
      refine jr_irem K dX11_brief_137 (by decide) ?_
      refine jr_iadd K dX11_brief_138 ?_
      refine jr_zald K dX11_brief_139 (fun v139 => ?_)
      refine jr_join (fun (k161 : Int32 → JP) => ∀ (s1_161 : Int32), JR p l e R s m args below meth c Q D S0 6 bc bs (k161 s1_161) 161 [some (.ref this), some (.int p1), none, some (.int (v93 / (nI 2))), none, some (.int x5_105)] [.int s1_161, .int x4_105]) ?_ (fun k161 hk161 => ?_)
      · intro s1_161
        refine jr_iadd K dX11_brief_161 ?_
        refine jr_istore K (L' := [some (.ref this), some (.int p1), none, some (.int (v93 / (nI 2))), some (.int (x4_105 + s1_161)), some (.int x5_105)]) dX11_brief_162 (by decide) rfl rfl ?_
        refine jr_iinc K (v := (x5_105 + (nI 1))) (L' := [some (.ref this), some (.int p1), none, some (.int (v93 / (nI 2))), some (.int (x4_105 + s1_161)), some (.int (x5_105 + (nI 1)))]) dX11_brief_164 rfl rfl (by decide) rfl rfl ?_
        refine jr_goto K (tgt := 105) dX11_brief_167 (by decide) ?_
        exact jr_weak (ih105 (x4_105 + s1_161) (x5_105 + (nI 1))) ⟨rfl, rfl, rfl, rfl, rfl, trivial⟩
      refine jr_join (fun (k160 : JP) => JR p l e R s m args below meth c Q D S0 6 bc bs k160 160 [some (.ref this), some (.int p1), none, some (.int (v93 / (nI 2))), none, some (.int x5_105)] [.int x4_105]) ?_ (fun k160 hk160 => ?_)
      · refine jr_iconst K dX11_brief_160 (v := (nI 0)) (by decide) ?_
        exact jr_weak (hk161 (nI 0)) ⟨rfl, rfl, rfl, rfl, trivial⟩
      refine jr_if_eq K (tgt := 160) dX11_brief_140 (by decide) ?_ ?_
      · exact jr_weak (hk160) ⟨rfl, rfl, rfl, rfl, trivial⟩
      · refine jr_aload_n K dX11_brief_143 rfl ?_
        refine jr_iload_n K dX11_brief_144 rfl ?_
        refine jr_iload K dX11_brief_145 rfl ?_
        refine jr_calli0 (jrun_V (As := [.int p1, .int x5_105]) (st := [.int x4_105]) (ci := 11) K (metX11_at K.hG this p1 x5_105 _) mtX11_at mvX11_at q1845 rfl rfl rfl (Nat.le_of_ble_eq_true rfl) (by decide) ⟨Nat.zero_le _, Nat.zero_le _⟩ dX11_brief_147) (fun v147 => ?_)
        refine jr_iconst K dX11_brief_150 (v := (nI 2)) (by decide) ?_
        refine jr_idiv K dX11_brief_151 (by decide) ?_
        refine jr_iload_n K dX11_brief_152 rfl ?_
        refine jr_icmp_ne K (tgt := 160) dX11_brief_153 (by decide) ?_ ?_
        · exact jr_weak (hk160) ⟨rfl, rfl, rfl, rfl, trivial⟩
        · refine jr_iconst K dX11_brief_156 (v := (nI 1)) (by decide) ?_
          refine jr_goto K (tgt := 161) dX11_brief_157 (by decide) ?_
          exact jr_weak (hk161 (nI 1)) ⟨rfl, rfl, rfl, rfl, trivial⟩
theorem wX11_brief_52 (K : JK p l R s m args meth c D S0 A0 6 cX11_brief "MoveNotesModel" 22) (bc bs : Nat) (this : Nat) (p1 : Int32) (k74 : JP) (hk74 : JR p l e R s m args below meth c Q D S0 6 bc bs k74 74 [some (.ref this), some (.int p1), none, none, none, none] []) : ∀ (n : Nat) (x3_52 : Int32), JR p l e R s m args below meth c Q D S0 6 bc bs (jit (FX11_brief_52 this p1 k74) (fun _ => jbot) n x3_52) 52 [some (.ref this), some (.int p1), none, some (.int x3_52), none, none] [] := by
  intro n
  induction n with
  | zero =>
    intro x3_52
    exact JR.bot
  | succ n ih52 =>
    intro x3_52
    show JR p l e R s m args below meth c Q D S0 6 bc bs (FX11_brief_52 this p1 k74 (jit (FX11_brief_52 this p1 k74) (fun _ => jbot) n) x3_52) 52 [some (.ref this), some (.int p1), none, some (.int x3_52), none, none] []
    generalize jit (FX11_brief_52 this p1 k74) (fun _ => jbot) n = rec52 at ih52 ⊢
    unfold FX11_brief_52
    refine jr_iload_n K dX11_brief_52 rfl ?_
    refine jr_iload_n K dX11_brief_53 rfl ?_
    refine jr_icmp_ge K (tgt := 74) dX11_brief_54 (by decide) ?_ ?_
    · exact jr_weak (hk74) ⟨rfl, rfl, trivial⟩
    · refine jr_aload_n K dX11_brief_57 rfl ?_
      refine jr_iload_n K dX11_brief_58 rfl ?_
      refine jr_aload_n K dX11_brief_59 rfl ?_
      refine jr_getA K gf_X11_75 dX11_brief_60 (fun v60 => ?_)
      refine jr_iload_n K dX11_brief_63 rfl ?_
      refine jr_iald K dX11_brief_64 (fun v64 => ?_)
      refine jr_callv0 (jrun_V (As := [.int x3_52, .int v64]) (st := []) (ci := 11) K (metX11_makes K.hG this x3_52 v64 _) mtX11_makes mvX11_makes q1979 rfl rfl rfl (Nat.le_of_ble_eq_true rfl) (by decide) ⟨Nat.zero_le _, Nat.zero_le _⟩ dX11_brief_65) ?_
      refine jr_iinc K (v := (x3_52 + (nI 1))) (L' := [some (.ref this), some (.int p1), none, some (.int (x3_52 + (nI 1))), none, none]) dX11_brief_68 rfl rfl (by decide) rfl rfl ?_
      refine jr_goto K (tgt := 52) dX11_brief_71 (by decide) ?_
      exact jr_weak (ih52 (x3_52 + (nI 1))) ⟨rfl, rfl, rfl, trivial⟩
theorem wX11_brief (K : JK p l R s m args meth c D S0 A0 6 cX11_brief "MoveNotesModel" 22) (bc bs : Nat) (this : Nat) (p1 : Int32) (Qj : Int32 → JP) (hret : jRetI p l e R s m args below meth c Q D S0 6 cX11_brief Qj) : JR p l e R s m args below meth c Q D S0 6 bc bs (JX11_brief this p1 Qj) 0 [some (.ref this), some (.int p1), none, none, none, none] [] := by
  unfold JX11_brief
  refine jr_aload_n K dX11_brief_0 rfl ?_
  refine jr_iconst K dX11_brief_1 (v := (nI 0)) (by decide) ?_
  refine jr_put K pf_X11_3 dX11_brief_2 rfl rfl ?_
  refine jr_aload_n K dX11_brief_5 rfl ?_
  refine jr_iload_n K dX11_brief_6 rfl ?_
  refine jr_join (fun (k15 : Int32 → JP) => ∀ (s1_15 : Int32), JR p l e R s m args below meth c Q D S0 6 bc bs (k15 s1_15) 15 [some (.ref this), some (.int p1), none, none, none, none] [.int s1_15, .ref this]) ?_ (fun k15 hk15 => ?_)
  · intro s1_15
    refine jr_iconst K dX11_brief_15 (v := (nI 1)) (by decide) ?_
    refine jr_calli0 (jrun_V (As := [.int s1_15, .int (nI 1)]) (st := []) (ci := 11) K (metX11_throwsIf K.hG this s1_15 (nI 1) _) mtX11_throwsIf mvX11_throwsIf q1748 rfl rfl rfl (Nat.le_of_ble_eq_true rfl) (by decide) ⟨Nat.zero_le _, Nat.zero_le _⟩ dX11_brief_16) (fun v16 => ?_)
    refine jr_if_eq K (tgt := 24) dX11_brief_19 (by decide) ?_ ?_
    · refine jr_aload_n K dX11_brief_24 rfl ?_
      refine jr_calli0 (jrun_V (As := []) (st := []) (ci := 11) K (metX11_asksWhole K.hG this _) mtX11_asksWhole mvX11_asksWhole q1887 rfl rfl rfl (Nat.le_of_ble_eq_true rfl) (by decide) ⟨Nat.zero_le _, Nat.zero_le _⟩ dX11_brief_25) (fun v25 => ?_)
      refine jr_istore_n K (L' := [some (.ref this), some (.int p1), some (.int v25), none, none, none]) dX11_brief_28 (by decide) rfl rfl ?_
      refine jr_iload_n K dX11_brief_29 rfl ?_
      refine jr_if_ge K (tgt := 35) dX11_brief_30 (by decide) ?_ ?_
      · refine jr_iload_n K dX11_brief_35 rfl ?_
        refine jr_aload_n K dX11_brief_36 rfl ?_
        refine jr_getI K gf_X11_380 dX11_brief_37 (fun v37 => ?_)
        refine jr_icmp_lt K (tgt := 46) dX11_brief_40 (by decide) ?_ ?_
        · refine jr_aload_n K dX11_brief_46 rfl ?_
          refine jr_callv0 (jrun_V (As := []) (st := []) (ci := 11) K (metX11_begins K.hG this _) mtX11_begins mvX11_begins q1837 rfl rfl rfl (Nat.le_of_ble_eq_true rfl) (by decide) ⟨Nat.zero_le _, Nat.zero_le _⟩ dX11_brief_47) ?_
          refine jr_iconst K dX11_brief_50 (v := (nI 0)) (by decide) ?_
          refine jr_istore_n K (L' := [some (.ref this), some (.int p1), some (.int v25), some (.int (nI 0)), none, none]) dX11_brief_51 (by decide) rfl rfl ?_
          refine jr_ex (fun n52 => ?_)
          refine jr_weak (wX11_brief_52 K bc bs this p1 _ ?_ n52 (nI 0)) ⟨rfl, rfl, rfl, trivial⟩
          · refine jr_aload_n K dX11_brief_74 rfl ?_
            refine jr_iload_n K dX11_brief_75 rfl ?_
            refine jr_iload_n K dX11_brief_76 rfl ?_
            refine jr_iconst K dX11_brief_77 (v := (nI 2)) (by decide) ?_
            refine jr_irem K dX11_brief_78 (by decide) ?_
            refine jr_callv0 (jrun_V (As := [.int p1, .int (jrem p1 (nI 2))]) (st := []) (ci := 11) K (metX11_finds K.hG this p1 (jrem p1 (nI 2)) _) mtX11_finds mvX11_finds q1841 rfl rfl rfl (Nat.le_of_ble_eq_true rfl) (by decide) ⟨Nat.zero_le _, Nat.zero_le _⟩ dX11_brief_79) ?_
            refine jr_aload_n K dX11_brief_82 rfl ?_
            refine jr_iload_n K dX11_brief_83 rfl ?_
            refine jr_aload_n K dX11_brief_84 rfl ?_
            refine jr_getA K gf_X11_75 dX11_brief_85 (fun v85 => ?_)
            refine jr_iload_n K dX11_brief_88 rfl ?_
            refine jr_iald K dX11_brief_89 (fun v89 => ?_)
            refine jr_bipush K dX11_brief_90 (v := (nI 36)) (by decide) ?_
            refine jr_idiv K dX11_brief_92 (by decide) ?_
            refine jr_calli0 (jrun_V (As := [.int p1, .int (v89 / (nI 36))]) (st := []) (ci := 11) K (metX11_at K.hG this p1 (v89 / (nI 36)) _) mtX11_at mvX11_at q1845 rfl rfl rfl (Nat.le_of_ble_eq_true rfl) (by decide) ⟨Nat.zero_le _, Nat.zero_le _⟩ dX11_brief_93) (fun v93 => ?_)
            refine jr_iconst K dX11_brief_96 (v := (nI 2)) (by decide) ?_
            refine jr_idiv K dX11_brief_97 (by decide) ?_
            refine jr_istore_n K (L' := [some (.ref this), some (.int p1), none, some (.int (v93 / (nI 2))), none, none]) dX11_brief_98 (by decide) rfl rfl ?_
            refine jr_iconst K dX11_brief_99 (v := (nI 0)) (by decide) ?_
            refine jr_istore K (L' := [some (.ref this), some (.int p1), none, some (.int (v93 / (nI 2))), some (.int (nI 0)), none]) dX11_brief_100 (by decide) rfl rfl ?_
            refine jr_iconst K dX11_brief_102 (v := (nI 0)) (by decide) ?_
            refine jr_istore K (L' := [some (.ref this), some (.int p1), none, some (.int (v93 / (nI 2))), some (.int (nI 0)), some (.int (nI 0))]) dX11_brief_103 (by decide) rfl rfl ?_
            refine jr_ex (fun n105 => ?_)
            refine jr_weak (wX11_brief_105 K bc bs this p1 Qj v93 hret n105 (nI 0) (nI 0)) ⟨rfl, rfl, rfl, rfl, rfl, trivial⟩
        · refine jr_bipush K dX11_brief_43 (v := (-3)) (by decide) ?_
          exact hret _ _ _ _ _ dX11_brief_45
      · refine jr_iload_n K dX11_brief_33 rfl ?_
        exact hret _ _ _ _ _ dX11_brief_34
    · refine jr_iconst K dX11_brief_22 (v := (nI 0)) (by decide) ?_
      exact hret _ _ _ _ _ dX11_brief_23
  refine jr_if_ge K (tgt := 14) dX11_brief_7 (by decide) ?_ ?_
  · refine jr_iconst K dX11_brief_14 (v := (nI 0)) (by decide) ?_
    exact jr_weak (hk15 (nI 0)) ⟨rfl, rfl, trivial⟩
  · refine jr_iconst K dX11_brief_10 (v := (nI 1)) (by decide) ?_
    refine jr_goto K (tgt := 15) dX11_brief_11 (by decide) ?_
    exact jr_weak (hk15 (nI 1)) ⟨rfl, rfl, trivial⟩
theorem metX11_brief (hG : jG l D S0 A0) (this : Nat) (p1 : Int32) (Qj : Int32 → JP) : Met l yX11_brief (ws_ yX11_brief cX11_brief 6 (some .int)) (jrm 22 0 0) (va_Pc [.ref this, .int p1] (jB D S0 (JX11_brief this p1 Qj))) (va_Qi Qj (fun σ t => jRep D S0.heap.size σ t.heap) (jA S0)) 0 0 (jA S0) :=
  jr_start hG (by decide) (Nat.le_of_ble_eq_true rfl) rfl fun p e s m below meth c K hr hn => wX11_brief K _ _ this p1 Qj (fun _ _ _ _ _ d => jr_iret K hr rfl d)
theorem wX11_part_29 (K : JK p l R s m args meth c D S0 A0 3 cX11_part "MoveNotesModel" 22) (bc bs : Nat) (this : Nat) (Qj : Int32 → JP) (hret : jRetI p l e R s m args below meth c Q D S0 3 cX11_part Qj) : ∀ (n : Nat) (x2_29 : Int32), JR p l e R s m args below meth c Q D S0 3 bc bs (jit (FX11_part_29 this Qj) (fun _ => jbot) n x2_29) 29 [some (.ref this), none, some (.int x2_29)] [] := by
  intro n
  induction n with
  | zero =>
    intro x2_29
    exact JR.bot
  | succ n ih29 =>
    intro x2_29
    show JR p l e R s m args below meth c Q D S0 3 bc bs (FX11_part_29 this Qj (jit (FX11_part_29 this Qj) (fun _ => jbot) n) x2_29) 29 [some (.ref this), none, some (.int x2_29)] []
    generalize jit (FX11_part_29 this Qj) (fun _ => jbot) n = rec29 at ih29 ⊢
    unfold FX11_part_29
    refine jr_iload_n K dX11_part_29 rfl ?_
    refine jr_aload_n K dX11_part_30 rfl ?_
    refine jr_getI K gf_X11_380 dX11_part_31 (fun v31 => ?_)
    refine jr_icmp_ge K (tgt := 66) dX11_part_34 (by decide) ?_ ?_
    · refine jr_iload_n K dX11_part_66 rfl ?_
      exact hret _ _ _ _ _ dX11_part_67
    · refine jr_iload_n K dX11_part_37 rfl ?_
      refine jr_aload_n K dX11_part_38 rfl ?_
      refine jr_getI K gf_X11_383 dX11_part_39 (fun v39 => ?_)
      refine jr_icmp_ge K (tgt := 66) dX11_part_42 (by decide) ?_ ?_
      · refine jr_iload_n K dX11_part_66 rfl ?_
        exact hret _ _ _ _ _ dX11_part_67
      · refine jr_aload_n K dX11_part_45 rfl ?_
        refine jr_getA K gf_X11_75 dX11_part_46 (fun v46 => ?_)
        refine jr_iload_n K dX11_part_49 rfl ?_
        refine jr_iald K dX11_part_50 (fun v50 => ?_)
        refine jr_aload_n K dX11_part_51 rfl ?_
        refine jr_getA K gf_X11_78 dX11_part_52 (fun v52 => ?_)
        refine jr_iload_n K dX11_part_55 rfl ?_
        refine jr_iald K dX11_part_56 (fun v56 => ?_)
        refine jr_icmp_ne K (tgt := 66) dX11_part_57 (by decide) ?_ ?_
        · refine jr_iload_n K dX11_part_66 rfl ?_
          exact hret _ _ _ _ _ dX11_part_67
        · refine jr_iinc K (v := (x2_29 + (nI 1))) (L' := [some (.ref this), none, some (.int (x2_29 + (nI 1)))]) dX11_part_60 rfl rfl (by decide) rfl rfl ?_
          refine jr_goto K (tgt := 29) dX11_part_63 (by decide) ?_
          exact jr_weak (ih29 (x2_29 + (nI 1))) ⟨rfl, rfl, trivial⟩
theorem wX11_part (K : JK p l R s m args meth c D S0 A0 3 cX11_part "MoveNotesModel" 22) (bc bs : Nat) (this : Nat) (Qj : Int32 → JP) (hret : jRetI p l e R s m args below meth c Q D S0 3 cX11_part Qj) : JR p l e R s m args below meth c Q D S0 3 bc bs (JX11_part this Qj) 0 [some (.ref this), none, none] [] := by
  unfold JX11_part
  refine jr_aload_n K dX11_part_0 rfl ?_
  refine jr_iconst K dX11_part_1 (v := (nI 0)) (by decide) ?_
  refine jr_put K pf_X11_3 dX11_part_2 rfl rfl ?_
  refine jr_aload_n K dX11_part_5 rfl ?_
  refine jr_calli0 (jrun_V (As := []) (st := []) (ci := 11) K (metX11_asksWhole K.hG this _) mtX11_asksWhole mvX11_asksWhole q1887 rfl rfl rfl (Nat.le_of_ble_eq_true rfl) (by decide) ⟨Nat.zero_le _, Nat.zero_le _⟩ dX11_part_6) (fun v6 => ?_)
  refine jr_istore_n K (L' := [some (.ref this), some (.int v6), none]) dX11_part_9 (by decide) rfl rfl ?_
  refine jr_iload_n K dX11_part_10 rfl ?_
  refine jr_if_ge K (tgt := 16) dX11_part_11 (by decide) ?_ ?_
  · refine jr_aload_n K dX11_part_16 rfl ?_
    refine jr_getI K gf_X11_374 dX11_part_17 (fun v17 => ?_)
    refine jr_iconst K dX11_part_20 (v := (nI 2)) (by decide) ?_
    refine jr_icmp_ge K (tgt := 27) dX11_part_21 (by decide) ?_ ?_
    · refine jr_iconst K dX11_part_27 (v := (nI 0)) (by decide) ?_
      refine jr_istore_n K (L' := [some (.ref this), some (.int v6), some (.int (nI 0))]) dX11_part_28 (by decide) rfl rfl ?_
      refine jr_ex (fun n29 => ?_)
      refine jr_weak (wX11_part_29 K bc bs this Qj hret n29 (nI 0)) ⟨rfl, rfl, trivial⟩
    · refine jr_bipush K dX11_part_24 (v := (-3)) (by decide) ?_
      exact hret _ _ _ _ _ dX11_part_26
  · refine jr_iload_n K dX11_part_14 rfl ?_
    exact hret _ _ _ _ _ dX11_part_15
theorem metX11_part (hG : jG l D S0 A0) (this : Nat) (Qj : Int32 → JP) : Met l yX11_part (ws_ yX11_part cX11_part 3 (some .int)) (jrm 22 0 0) (va_Pc [.ref this] (jB D S0 (JX11_part this Qj))) (va_Qi Qj (fun σ t => jRep D S0.heap.size σ t.heap) (jA S0)) 0 0 (jA S0) :=
  jr_start hG (by decide) (Nat.le_of_ble_eq_true rfl) rfl fun p e s m below meth c K hr hn => wX11_part K _ _ this Qj (fun _ _ _ _ _ d => jr_iret K hr rfl d)
theorem wX11_best (K : JK p l R s m args meth c D S0 A0 3 cX11_best "MoveNotesModel" 22) (bc bs : Nat) (this : Nat) (p1 : Int32) (Qj : Int32 → JP) (hret : jRetI p l e R s m args below meth c Q D S0 3 cX11_best Qj) : JR p l e R s m args below meth c Q D S0 3 bc bs (JX11_best this p1 Qj) 0 [some (.ref this), some (.int p1), none] [] := by
  unfold JX11_best
  refine jr_aload_n K dX11_best_0 rfl ?_
  refine jr_iconst K dX11_best_1 (v := (nI 0)) (by decide) ?_
  refine jr_put K pf_X11_3 dX11_best_2 rfl rfl ?_
  refine jr_aload_n K dX11_best_5 rfl ?_
  refine jr_iload_n K dX11_best_6 rfl ?_
  refine jr_iconst K dX11_best_7 (v := (-1)) (by decide) ?_
  refine jr_join (fun (k16 : Int32 → JP) => ∀ (s1_16 : Int32), JR p l e R s m args below meth c Q D S0 3 bc bs (k16 s1_16) 16 [some (.ref this), some (.int p1), none] [.int s1_16, .ref this]) ?_ (fun k16 hk16 => ?_)
  · intro s1_16
    refine jr_iconst K dX11_best_16 (v := (nI 1)) (by decide) ?_
    refine jr_calli0 (jrun_V (As := [.int s1_16, .int (nI 1)]) (st := []) (ci := 11) K (metX11_throwsIf K.hG this s1_16 (nI 1) _) mtX11_throwsIf mvX11_throwsIf q1748 rfl rfl rfl (Nat.le_of_ble_eq_true rfl) (by decide) ⟨Nat.zero_le _, Nat.zero_le _⟩ dX11_best_17) (fun v17 => ?_)
    refine jr_if_eq K (tgt := 25) dX11_best_20 (by decide) ?_ ?_
    · refine jr_aload_n K dX11_best_25 rfl ?_
      refine jr_calli0 (jrun_V (As := []) (st := []) (ci := 11) K (metX11_asksWhole K.hG this _) mtX11_asksWhole mvX11_asksWhole q1887 rfl rfl rfl (Nat.le_of_ble_eq_true rfl) (by decide) ⟨Nat.zero_le _, Nat.zero_le _⟩ dX11_best_26) (fun v26 => ?_)
      refine jr_istore_n K (L' := [some (.ref this), some (.int p1), some (.int v26)]) dX11_best_29 (by decide) rfl rfl ?_
      refine jr_iload_n K dX11_best_30 rfl ?_
      refine jr_if_ge K (tgt := 38) dX11_best_31 (by decide) ?_ ?_
      · refine jr_iload_n K dX11_best_38 rfl ?_
        refine jr_if_ge K (tgt := 49) dX11_best_39 (by decide) ?_ ?_
        · refine jr_iload_n K dX11_best_49 rfl ?_
          refine jr_aload_n K dX11_best_50 rfl ?_
          refine jr_getI K gf_X11_389 dX11_best_51 (fun v51 => ?_)
          refine jr_icmp_ge K (tgt := 66) dX11_best_54 (by decide) ?_ ?_
          · refine jr_bipush K dX11_best_66 (v := (-3)) (by decide) ?_
            exact hret _ _ _ _ _ dX11_best_68
          · refine jr_aload_n K dX11_best_57 rfl ?_
            refine jr_getA K gf_X11_81 dX11_best_58 (fun v58 => ?_)
            refine jr_iload_n K dX11_best_61 rfl ?_
            refine jr_iald K dX11_best_62 (fun v62 => ?_)
            refine jr_goto K (tgt := 68) dX11_best_63 (by decide) ?_
            exact hret _ _ _ _ _ dX11_best_68
        · refine jr_aload_n K dX11_best_42 rfl ?_
          refine jr_getI K gf_X11_386 dX11_best_43 (fun v43 => ?_)
          refine jr_goto K (tgt := 68) dX11_best_46 (by decide) ?_
          exact hret _ _ _ _ _ dX11_best_68
      · refine jr_iload_n K dX11_best_34 rfl ?_
        refine jr_goto K (tgt := 68) dX11_best_35 (by decide) ?_
        exact hret _ _ _ _ _ dX11_best_68
    · refine jr_iconst K dX11_best_23 (v := (nI 0)) (by decide) ?_
      exact hret _ _ _ _ _ dX11_best_24
  refine jr_icmp_ge K (tgt := 15) dX11_best_8 (by decide) ?_ ?_
  · refine jr_iconst K dX11_best_15 (v := (nI 0)) (by decide) ?_
    exact jr_weak (hk16 (nI 0)) ⟨rfl, rfl, trivial⟩
  · refine jr_iconst K dX11_best_11 (v := (nI 1)) (by decide) ?_
    refine jr_goto K (tgt := 16) dX11_best_12 (by decide) ?_
    exact jr_weak (hk16 (nI 1)) ⟨rfl, rfl, trivial⟩
theorem metX11_best (hG : jG l D S0 A0) (this : Nat) (p1 : Int32) (Qj : Int32 → JP) : Met l yX11_best (ws_ yX11_best cX11_best 3 (some .int)) (jrm 22 0 0) (va_Pc [.ref this, .int p1] (jB D S0 (JX11_best this p1 Qj))) (va_Qi Qj (fun σ t => jRep D S0.heap.size σ t.heap) (jA S0)) 0 0 (jA S0) :=
  jr_start hG (by decide) (Nat.le_of_ble_eq_true rfl) rfl fun p e s m below meth c K hr hn => wX11_best K _ _ this p1 Qj (fun _ _ _ _ _ d => jr_iret K hr rfl d)
theorem wX11_common_6 (K : JK p l R s m args meth c D S0 A0 10 cX11_common "MoveNotesModel" 12) (bc bs : Nat) (Qj : Int64 → JP) (hret : jRetL p l e R s m args below meth c Q D S0 10 cX11_common Qj) : ∀ (n : Nat) (x4_6 : Int64) (x6_6 : Int64), JR p l e R s m args below meth c Q D S0 10 bc bs (jit (FX11_common_6 Qj) (fun _ _ => jbot) n x4_6 x6_6) 6 [none, none, none, none, some (.long x4_6), none, some (.long x6_6), none, none, none] [] := by
  intro n
  induction n with
  | zero =>
    intro x4_6 x6_6
    exact JR.bot
  | succ n ih6 =>
    intro x4_6 x6_6
    show JR p l e R s m args below meth c Q D S0 10 bc bs (FX11_common_6 Qj (jit (FX11_common_6 Qj) (fun _ _ => jbot) n) x4_6 x6_6) 6 [none, none, none, none, some (.long x4_6), none, some (.long x6_6), none, none, none] []
    generalize jit (FX11_common_6 Qj) (fun _ _ => jbot) n = rec6 at ih6 ⊢
    unfold FX11_common_6
    refine jr_lload K dX11_common_6 rfl ?_
    refine jr_lconst K dX11_common_8 (v := (lN 0)) rfl ?_
    refine jr_lcmp K dX11_common_9 ?_
    refine jr_if_le K (tgt := 31) dX11_common_10 (by decide) ?_ ?_
    · refine jr_lload K dX11_common_31 rfl ?_
      exact hret _ _ _ _ _ dX11_common_33
    · refine jr_lload K dX11_common_13 rfl ?_
      refine jr_lload K dX11_common_15 rfl ?_
      refine jr_and (fun hnz => ?_)
      refine jr_lrem K dX11_common_17 hnz ?_
      refine jr_lstore K (L' := [none, none, none, none, some (.long x4_6), none, some (.long x6_6), none, some (.long (jlrem x4_6 x6_6)), none]) dX11_common_18 (by decide) rfl rfl ?_
      refine jr_lload K dX11_common_20 rfl ?_
      refine jr_lstore K (L' := [none, none, none, none, some (.long x6_6), none, some (.long x6_6), none, some (.long (jlrem x4_6 x6_6)), none]) dX11_common_22 (by decide) rfl rfl ?_
      refine jr_lload K dX11_common_24 rfl ?_
      refine jr_lstore K (L' := [none, none, none, none, some (.long x6_6), none, some (.long (jlrem x4_6 x6_6)), none, some (.long (jlrem x4_6 x6_6)), none]) dX11_common_26 (by decide) rfl rfl ?_
      refine jr_goto K (tgt := 6) dX11_common_28 (by decide) ?_
      exact jr_weak (ih6 x6_6 (jlrem x4_6 x6_6)) ⟨rfl, rfl, trivial⟩
theorem wX11_common (K : JK p l R s m args meth c D S0 A0 10 cX11_common "MoveNotesModel" 12) (bc bs : Nat) (p0 : Int64) (p2 : Int64) (Qj : Int64 → JP) (hret : jRetL p l e R s m args below meth c Q D S0 10 cX11_common Qj) : JR p l e R s m args below meth c Q D S0 10 bc bs (JX11_common p0 p2 Qj) 0 [some (.long p0), none, some (.long p2), none, none, none, none, none, none, none] [] := by
  unfold JX11_common
  refine jr_lload_n K dX11_common_0 rfl ?_
  refine jr_lstore K (L' := [some (.long p0), none, some (.long p2), none, some (.long p0), none, none, none, none, none]) dX11_common_1 (by decide) rfl rfl ?_
  refine jr_lload_n K dX11_common_3 rfl ?_
  refine jr_lstore K (L' := [some (.long p0), none, some (.long p2), none, some (.long p0), none, some (.long p2), none, none, none]) dX11_common_4 (by decide) rfl rfl ?_
  refine jr_ex (fun n6 => ?_)
  refine jr_weak (wX11_common_6 K bc bs Qj hret n6 p0 p2) ⟨rfl, rfl, trivial⟩
theorem metX11_common (hG : jG l D S0 A0) (p0 : Int64) (p2 : Int64) (Qj : Int64 → JP) : Met l yX11_common (ws_ yX11_common cX11_common 10 (some .long)) (jrm 12 0 0) (va_Pc [.long p0, .long p2] (jB D S0 (JX11_common p0 p2 Qj))) (va_Ql Qj (fun σ t => jRep D S0.heap.size σ t.heap) (jA S0)) 0 0 (jA S0) :=
  jr_start hG (by decide) (Nat.le_of_ble_eq_true rfl) rfl fun p e s m below meth c K hr hn => wX11_common K _ _ p0 p2 Qj (fun _ _ _ _ _ d => jr_lret K hr d)
theorem wX11_odds_152 (K : JK p l R s m args meth c D S0 A0 12 cX11_odds "MoveNotesModel" 22) (bc bs : Nat) (this : Nat) (p2 : Int32) (p3 : Int32) (v34 : Int32) (k210 : Int64 → Int64 → JP) (hk210 : ∀ (y5_210 : Int64) (y7_210 : Int64), JR p l e R s m args below meth c Q D S0 12 bc bs (k210 y5_210 y7_210) 210 [none, none, none, some (.int p3), none, some (.long y5_210), none, some (.long y7_210), none, none, none, none] []) : ∀ (n : Nat) (x5_152 : Int64) (x7_152 : Int64) (x9_152 : Int32), JR p l e R s m args below meth c Q D S0 12 bc bs (jit (FX11_odds_152 this p2 v34 k210) (fun _ _ _ => jbot) n x5_152 x7_152 x9_152) 152 [some (.ref this), none, some (.int p2), some (.int p3), some (.int v34), some (.long x5_152), none, some (.long x7_152), none, some (.int x9_152), none, none] [] := by
  intro n
  induction n with
  | zero =>
    intro x5_152 x7_152 x9_152
    exact JR.bot
  | succ n ih152 =>
    intro x5_152 x7_152 x9_152
    show JR p l e R s m args below meth c Q D S0 12 bc bs (FX11_odds_152 this p2 v34 k210 (jit (FX11_odds_152 this p2 v34 k210) (fun _ _ _ => jbot) n) x5_152 x7_152 x9_152) 152 [some (.ref this), none, some (.int p2), some (.int p3), some (.int v34), some (.long x5_152), none, some (.long x7_152), none, some (.int x9_152), none, none] []
    generalize jit (FX11_odds_152 this p2 v34 k210) (fun _ _ _ => jbot) n = rec152 at ih152 ⊢
    unfold FX11_odds_152
    refine jr_iload K dX11_odds_152 rfl ?_
    refine jr_iload K dX11_odds_154 rfl ?_
    refine jr_iload_n K dX11_odds_156 rfl ?_
    refine jr_iadd K dX11_odds_157 ?_
    refine jr_icmp_gt K (tgt := 210) dX11_odds_158 (by decide) ?_ ?_
    · exact jr_weak (hk210 x5_152 x7_152) ⟨rfl, rfl, rfl, trivial⟩
    · refine jr_lconst K dX11_odds_161 (v := (lN 1)) rfl ?_
      refine jr_iconst K dX11_odds_162 (v := (nI 2)) (by decide) ?_
      refine jr_iload K dX11_odds_163 rfl ?_
      refine jr_iload_n K dX11_odds_165 rfl ?_
      refine jr_iadd K dX11_odds_166 ?_
      refine jr_iload K dX11_odds_167 rfl ?_
      refine jr_isub K dX11_odds_169 ?_
      refine jr_imul K dX11_odds_170 ?_
      refine jr_lshl K dX11_odds_171 ?_
      refine jr_lstore K (L' := [some (.ref this), none, some (.int p2), some (.int p3), some (.int v34), some (.long x5_152), none, some (.long x7_152), none, some (.int x9_152), some (.long (jlshl (lN 1) ((nI 2) * ((v34 + p2) - x9_152)))), none]) dX11_odds_172 (by decide) rfl rfl ?_
      refine jr_lload K dX11_odds_174 rfl ?_
      refine jr_lload K dX11_odds_176 rfl ?_
      refine jr_aload_n K dX11_odds_178 rfl ?_
      refine jr_getA K gf_X11_72 dX11_odds_179 (fun v179 => ?_)
      refine jr_iload K dX11_odds_182 rfl ?_
      refine jr_lald K dX11_odds_184 (fun v184 => ?_)
      refine jr_lmul K dX11_odds_185 ?_
      refine jr_ladd K dX11_odds_186 ?_
      refine jr_lstore K (L' := [some (.ref this), none, some (.int p2), some (.int p3), some (.int v34), some (.long (x5_152 + ((jlshl (lN 1) ((nI 2) * ((v34 + p2) - x9_152))) * v184))), none, some (.long x7_152), none, some (.int x9_152), some (.long (jlshl (lN 1) ((nI 2) * ((v34 + p2) - x9_152)))), none]) dX11_odds_187 (by decide) rfl rfl ?_
      refine jr_lload K dX11_odds_189 rfl ?_
      refine jr_lload K dX11_odds_191 rfl ?_
      refine jr_aload_n K dX11_odds_193 rfl ?_
      refine jr_getA K gf_X11_68 dX11_odds_194 (fun v194 => ?_)
      refine jr_iload K dX11_odds_197 rfl ?_
      refine jr_lald K dX11_odds_199 (fun v199 => ?_)
      refine jr_lmul K dX11_odds_200 ?_
      refine jr_ladd K dX11_odds_201 ?_
      refine jr_lstore K (L' := [some (.ref this), none, some (.int p2), some (.int p3), some (.int v34), some (.long (x5_152 + ((jlshl (lN 1) ((nI 2) * ((v34 + p2) - x9_152))) * v184))), none, some (.long (x7_152 + ((jlshl (lN 1) ((nI 2) * ((v34 + p2) - x9_152))) * v199))), none, some (.int x9_152), some (.long (jlshl (lN 1) ((nI 2) * ((v34 + p2) - x9_152)))), none]) dX11_odds_202 (by decide) rfl rfl ?_
      refine jr_iinc K (v := (x9_152 + (nI 1))) (L' := [some (.ref this), none, some (.int p2), some (.int p3), some (.int v34), some (.long (x5_152 + ((jlshl (lN 1) ((nI 2) * ((v34 + p2) - x9_152))) * v184))), none, some (.long (x7_152 + ((jlshl (lN 1) ((nI 2) * ((v34 + p2) - x9_152))) * v199))), none, some (.int (x9_152 + (nI 1))), some (.long (jlshl (lN 1) ((nI 2) * ((v34 + p2) - x9_152)))), none]) dX11_odds_204 rfl rfl (by decide) rfl rfl ?_
      refine jr_goto K (tgt := 152) dX11_odds_207 (by decide) ?_
      exact jr_weak (ih152 (x5_152 + ((jlshl (lN 1) ((nI 2) * ((v34 + p2) - x9_152))) * v184)) (x7_152 + ((jlshl (lN 1) ((nI 2) * ((v34 + p2) - x9_152))) * v199)) (x9_152 + (nI 1))) ⟨rfl, rfl, rfl, rfl, rfl, rfl, rfl, trivial⟩
theorem wX11_odds_99 (K : JK p l R s m args meth c D S0 A0 12 cX11_odds "MoveNotesModel" 22) (bc bs : Nat) (this : Nat) (p2 : Int32) (p3 : Int32) (Qj : Int64 → JP) (v34 : Int32) (k131 : JP) (hret : jRetL p l e R s m args below meth c Q D S0 12 cX11_odds Qj) (hk131 : JR p l e R s m args below meth c Q D S0 12 bc bs k131 131 [some (.ref this), none, some (.int p2), some (.int p3), some (.int v34), none, none, none, none, none, none, none] []) : ∀ (n : Nat) (x5_99 : Int32), JR p l e R s m args below meth c Q D S0 12 bc bs (jit (FX11_odds_99 this p2 Qj v34 k131) (fun _ => jbot) n x5_99) 99 [some (.ref this), none, some (.int p2), some (.int p3), some (.int v34), some (.int x5_99), none, none, none, none, none, none] [] := by
  intro n
  induction n with
  | zero =>
    intro x5_99
    exact JR.bot
  | succ n ih99 =>
    intro x5_99
    show JR p l e R s m args below meth c Q D S0 12 bc bs (FX11_odds_99 this p2 Qj v34 k131 (jit (FX11_odds_99 this p2 Qj v34 k131) (fun _ => jbot) n) x5_99) 99 [some (.ref this), none, some (.int p2), some (.int p3), some (.int v34), some (.int x5_99), none, none, none, none, none, none] []
    generalize jit (FX11_odds_99 this p2 Qj v34 k131) (fun _ => jbot) n = rec99 at ih99 ⊢
    unfold FX11_odds_99
    refine jr_iload K dX11_odds_99 rfl ?_
    refine jr_iload K dX11_odds_101 rfl ?_
    refine jr_iload_n K dX11_odds_103 rfl ?_
    refine jr_iadd K dX11_odds_104 ?_
    refine jr_icmp_gt K (tgt := 131) dX11_odds_105 (by decide) ?_ ?_
    · exact jr_weak (hk131) ⟨rfl, rfl, rfl, rfl, trivial⟩
    · refine jr_aload_n K dX11_odds_108 rfl ?_
      refine jr_iload K dX11_odds_109 rfl ?_
      refine jr_callv0 (jrun_V (As := [.int x5_99]) (st := []) (ci := 11) K (metX11_laysAll K.hG this x5_99 _) mtX11_laysAll mvX11_laysAll q1899 rfl rfl rfl (Nat.le_of_ble_eq_true rfl) (by decide) ⟨Nat.zero_le _, Nat.zero_le _⟩ dX11_odds_111) ?_
      refine jr_aload_n K dX11_odds_114 rfl ?_
      refine jr_getI K gf_X11_401 dX11_odds_115 (fun v115 => ?_)
      refine jr_if_eq K (tgt := 125) dX11_odds_118 (by decide) ?_ ?_
      · refine jr_iinc K (v := (x5_99 + (nI 1))) (L' := [some (.ref this), none, some (.int p2), some (.int p3), some (.int v34), some (.int (x5_99 + (nI 1))), none, none, none, none, none, none]) dX11_odds_125 rfl rfl (by decide) rfl rfl ?_
        refine jr_goto K (tgt := 99) dX11_odds_128 (by decide) ?_
        exact jr_weak (ih99 (x5_99 + (nI 1))) ⟨rfl, rfl, rfl, rfl, rfl, trivial⟩
      · refine jr_ldc2 K (v := (-2)) q2035 (by decide) dX11_odds_121 ?_
        exact hret _ _ _ _ _ dX11_odds_124
theorem wX11_odds (K : JK p l R s m args meth c D S0 A0 12 cX11_odds "MoveNotesModel" 22) (bc bs : Nat) (this : Nat) (p1 : Int32) (p2 : Int32) (p3 : Int32) (Qj : Int64 → JP) (hret : jRetL p l e R s m args below meth c Q D S0 12 cX11_odds Qj) : JR p l e R s m args below meth c Q D S0 12 bc bs (JX11_odds this p1 p2 p3 Qj) 0 [some (.ref this), some (.int p1), some (.int p2), some (.int p3), none, none, none, none, none, none, none, none] [] := by
  unfold JX11_odds
  refine jr_aload_n K dX11_odds_0 rfl ?_
  refine jr_iconst K dX11_odds_1 (v := (nI 0)) (by decide) ?_
  refine jr_put K pf_X11_3 dX11_odds_2 rfl rfl ?_
  refine jr_aload_n K dX11_odds_5 rfl ?_
  refine jr_iload_n K dX11_odds_6 rfl ?_
  refine jr_join (fun (k24 : Int32 → JP) => ∀ (s1_24 : Int32), JR p l e R s m args below meth c Q D S0 12 bc bs (k24 s1_24) 24 [some (.ref this), some (.int p1), some (.int p2), some (.int p3), none, none, none, none, none, none, none, none] [.int s1_24, .ref this]) ?_ (fun k24 hk24 => ?_)
  · intro s1_24
    refine jr_iconst K dX11_odds_24 (v := (nI 1)) (by decide) ?_
    refine jr_calli0 (jrun_V (As := [.int s1_24, .int (nI 1)]) (st := []) (ci := 11) K (metX11_throwsIf K.hG this s1_24 (nI 1) _) mtX11_throwsIf mvX11_throwsIf q1748 rfl rfl rfl (Nat.le_of_ble_eq_true rfl) (by decide) ⟨Nat.zero_le _, Nat.zero_le _⟩ dX11_odds_25) (fun v25 => ?_)
    refine jr_if_eq K (tgt := 33) dX11_odds_28 (by decide) ?_ ?_
    · refine jr_aload_n K dX11_odds_33 rfl ?_
      refine jr_calli0 (jrun_V (As := []) (st := []) (ci := 11) K (metX11_asksWhole K.hG this _) mtX11_asksWhole mvX11_asksWhole q1887 rfl rfl rfl (Nat.le_of_ble_eq_true rfl) (by decide) ⟨Nat.zero_le _, Nat.zero_le _⟩ dX11_odds_34) (fun v34 => ?_)
      refine jr_istore K (L' := [some (.ref this), some (.int p1), some (.int p2), some (.int p3), some (.int v34), none, none, none, none, none, none, none]) dX11_odds_37 (by decide) rfl rfl ?_
      refine jr_iload K dX11_odds_39 rfl ?_
      refine jr_if_ge K (tgt := 48) dX11_odds_41 (by decide) ?_ ?_
      · refine jr_aload_n K dX11_odds_48 rfl ?_
        refine jr_iload_n K dX11_odds_49 rfl ?_
        refine jr_put K pf_X11_368 dX11_odds_50 rfl rfl ?_
        refine jr_aload_n K dX11_odds_53 rfl ?_
        refine jr_iload_n K dX11_odds_54 rfl ?_
        refine jr_aload_n K dX11_odds_55 rfl ?_
        refine jr_getI K gf_X11_380 dX11_odds_56 (fun v56 => ?_)
        refine jr_join (fun (k72 : Int32 → JP) => ∀ (s1_72 : Int32), JR p l e R s m args below meth c Q D S0 12 bc bs (k72 s1_72) 72 [some (.ref this), none, some (.int p2), some (.int p3), some (.int v34), none, none, none, none, none, none, none] [.int s1_72, .ref this]) ?_ (fun k72 hk72 => ?_)
        · intro s1_72
          refine jr_put K pf_X11_371 dX11_odds_72 rfl rfl ?_
          refine jr_iload_n K dX11_odds_75 rfl ?_
          refine jr_join (fun (k84 : JP) => JR p l e R s m args below meth c Q D S0 12 bc bs k84 84 [some (.ref this), none, some (.int p2), some (.int p3), some (.int v34), none, none, none, none, none, none, none] []) ?_ (fun k84 hk84 => ?_)
          · refine jr_iload_n K dX11_odds_84 rfl ?_
            refine jr_join (fun (k97 : Int32 → JP) => ∀ (s0_97 : Int32), JR p l e R s m args below meth c Q D S0 12 bc bs (k97 s0_97) 97 [some (.ref this), none, some (.int p2), some (.int p3), some (.int v34), none, none, none, none, none, none, none] [.int s0_97]) ?_ (fun k97 hk97 => ?_)
            · intro s0_97
              refine jr_istore K (L' := [some (.ref this), none, some (.int p2), some (.int p3), some (.int v34), some (.int s0_97), none, none, none, none, none, none]) dX11_odds_97 (by decide) rfl rfl ?_
              refine jr_ex (fun n99 => ?_)
              refine jr_weak (wX11_odds_99 K bc bs this p2 p3 Qj v34 _ hret ?_ n99 s0_97) ⟨rfl, rfl, rfl, rfl, rfl, trivial⟩
              · refine jr_aload_n K dX11_odds_131 rfl ?_
                refine jr_getI K gf_X11_371 dX11_odds_132 (fun v132 => ?_)
                refine jr_if_ge K (tgt := 142) dX11_odds_135 (by decide) ?_ ?_
                · refine jr_lconst K dX11_odds_142 (v := (lN 0)) rfl ?_
                  refine jr_lstore K (L' := [some (.ref this), none, some (.int p2), some (.int p3), some (.int v34), some (.long (lN 0)), none, none, none, none, none, none]) dX11_odds_143 (by decide) rfl rfl ?_
                  refine jr_lconst K dX11_odds_145 (v := (lN 0)) rfl ?_
                  refine jr_lstore K (L' := [some (.ref this), none, some (.int p2), some (.int p3), some (.int v34), some (.long (lN 0)), none, some (.long (lN 0)), none, none, none, none]) dX11_odds_146 (by decide) rfl rfl ?_
                  refine jr_iload K dX11_odds_148 rfl ?_
                  refine jr_istore K (L' := [some (.ref this), none, some (.int p2), some (.int p3), some (.int v34), some (.long (lN 0)), none, some (.long (lN 0)), none, some (.int v34), none, none]) dX11_odds_150 (by decide) rfl rfl ?_
                  refine jr_ex (fun n152 => ?_)
                  refine jr_weak (wX11_odds_152 K bc bs this p2 p3 v34 _ ?_ n152 (lN 0) (lN 0) v34) ⟨rfl, rfl, rfl, rfl, rfl, rfl, rfl, trivial⟩
                  · intro y5_210 y7_210
                    refine jr_lload K dX11_odds_210 rfl ?_
                    refine jr_lload K dX11_odds_212 rfl ?_
                    refine jr_calll0 (jrun_S (As := [.long y5_210, .long y7_210]) (st := []) K (metX11_common K.hG y5_210 y7_210 _) mtX11_common q2038 q2037 rfl rfl (Nat.le_of_ble_eq_true rfl) (by decide) ⟨Nat.zero_le _, Nat.zero_le _⟩ dX11_odds_214) (fun v214 => ?_)
                    refine jr_lstore K (L' := [none, none, none, some (.int p3), none, some (.long y5_210), none, some (.long y7_210), none, some (.long v214), none, none]) dX11_odds_217 (by decide) rfl rfl ?_
                    refine jr_iload_n K dX11_odds_219 rfl ?_
                    refine jr_if_eq K (tgt := 231) dX11_odds_220 (by decide) ?_ ?_
                    · refine jr_lload K dX11_odds_231 rfl ?_
                      refine jr_lload K dX11_odds_233 rfl ?_
                      refine jr_and (fun hnz => ?_)
                      refine jr_ldiv K dX11_odds_235 hnz ?_
                      exact hret _ _ _ _ _ dX11_odds_236
                    · refine jr_lload K dX11_odds_223 rfl ?_
                      refine jr_lload K dX11_odds_225 rfl ?_
                      refine jr_and (fun hnz => ?_)
                      refine jr_ldiv K dX11_odds_227 hnz ?_
                      refine jr_goto K (tgt := 236) dX11_odds_228 (by decide) ?_
                      exact hret _ _ _ _ _ dX11_odds_236
                · refine jr_ldc2 K (v := (-3)) q2036 (by decide) dX11_odds_138 ?_
                  exact hret _ _ _ _ _ dX11_odds_141
            refine jr_if_ne K (tgt := 93) dX11_odds_85 (by decide) ?_ ?_
            · refine jr_iload K dX11_odds_93 rfl ?_
              refine jr_iconst K dX11_odds_95 (v := (nI 1)) (by decide) ?_
              refine jr_iadd K dX11_odds_96 ?_
              exact jr_weak (hk97 (v34 + (nI 1))) ⟨rfl, rfl, rfl, rfl, trivial⟩
            · refine jr_iload K dX11_odds_88 rfl ?_
              refine jr_goto K (tgt := 97) dX11_odds_90 (by decide) ?_
              exact jr_weak (hk97 v34) ⟨rfl, rfl, rfl, rfl, trivial⟩
          refine jr_if_ne K (tgt := 84) dX11_odds_76 (by decide) ?_ ?_
          · exact jr_weak (hk84) ⟨rfl, rfl, rfl, rfl, trivial⟩
          · refine jr_aload_n K dX11_odds_79 rfl ?_
            refine jr_iconst K dX11_odds_80 (v := (nI 0)) (by decide) ?_
            refine jr_put K pf_X11_398 dX11_odds_81 rfl rfl ?_
            exact jr_weak (hk84) ⟨rfl, rfl, rfl, rfl, trivial⟩
        refine jr_icmp_ge K (tgt := 71) dX11_odds_59 (by decide) ?_ ?_
        · refine jr_iconst K dX11_odds_71 (v := (-1)) (by decide) ?_
          exact jr_weak (hk72 (-1)) ⟨rfl, rfl, rfl, rfl, trivial⟩
        · refine jr_aload_n K dX11_odds_62 rfl ?_
          refine jr_getA K gf_X11_75 dX11_odds_63 (fun v63 => ?_)
          refine jr_iload_n K dX11_odds_66 rfl ?_
          refine jr_iald K dX11_odds_67 (fun v67 => ?_)
          refine jr_goto K (tgt := 72) dX11_odds_68 (by decide) ?_
          exact jr_weak (hk72 v67) ⟨rfl, rfl, rfl, rfl, trivial⟩
      · refine jr_iload K dX11_odds_44 rfl ?_
        refine jr_i2l K dX11_odds_46 ?_
        exact hret _ _ _ _ _ dX11_odds_47
    · refine jr_lconst K dX11_odds_31 (v := (lN 0)) rfl ?_
      exact hret _ _ _ _ _ dX11_odds_32
  refine jr_join (fun (k19 : JP) => JR p l e R s m args below meth c Q D S0 12 bc bs k19 19 [some (.ref this), some (.int p1), some (.int p2), some (.int p3), none, none, none, none, none, none, none, none] [.ref this]) ?_ (fun k19 hk19 => ?_)
  · refine jr_iconst K dX11_odds_19 (v := (nI 1)) (by decide) ?_
    refine jr_goto K (tgt := 24) dX11_odds_20 (by decide) ?_
    exact jr_weak (hk24 (nI 1)) ⟨rfl, rfl, rfl, rfl, trivial⟩
  refine jr_if_lt K (tgt := 19) dX11_odds_7 (by decide) ?_ ?_
  · exact jr_weak (hk19) ⟨rfl, rfl, rfl, rfl, trivial⟩
  · refine jr_iload_n K dX11_odds_10 rfl ?_
    refine jr_iconst K dX11_odds_11 (v := (nI 0)) (by decide) ?_
    refine jr_iconst K dX11_odds_12 (v := (nI 2)) (by decide) ?_
    refine jr_calli0 (jrun_S (As := [.int p2, .int (nI 0), .int (nI 2)]) (st := [.ref this]) K (metX11_in K.hG p2 (nI 0) (nI 2) _) mtX11_in q1746 q1745 rfl rfl (Nat.le_of_ble_eq_true rfl) (by decide) ⟨Nat.zero_le _, Nat.zero_le _⟩ dX11_odds_13) (fun v13 => ?_)
    refine jr_if_ne K (tgt := 23) dX11_odds_16 (by decide) ?_ ?_
    · refine jr_iconst K dX11_odds_23 (v := (nI 0)) (by decide) ?_
      exact jr_weak (hk24 (nI 0)) ⟨rfl, rfl, rfl, rfl, trivial⟩
    · exact jr_weak (hk19) ⟨rfl, rfl, rfl, rfl, trivial⟩
theorem metX11_odds (hG : jG l D S0 A0) (this : Nat) (p1 : Int32) (p2 : Int32) (p3 : Int32) (Qj : Int64 → JP) : Met l yX11_odds (ws_ yX11_odds cX11_odds 12 (some .long)) (jrm 22 0 0) (va_Pc [.ref this, .int p1, .int p2, .int p3] (jB D S0 (JX11_odds this p1 p2 p3 Qj))) (va_Ql Qj (fun σ t => jRep D S0.heap.size σ t.heap) (jA S0)) 0 0 (jA S0) :=
  jr_start hG (by decide) (Nat.le_of_ble_eq_true rfl) rfl fun p e s m below meth c K hr hn => wX11_odds K _ _ this p1 p2 p3 Qj (fun _ _ _ _ _ d => jr_lret K hr d)
theorem wX11_isSlip (K : JK p l R s m args meth c D S0 A0 1 cX11_isSlip "MoveNotesModel" 13) (bc bs : Nat) (p0 : Int32) (Qj : Int32 → JP) (hret : jRetZ p l e R s m args below meth c Q D S0 1 cX11_isSlip Qj) : JR p l e R s m args below meth c Q D S0 1 bc bs (JX11_isSlip p0 Qj) 0 [some (.int p0)] [] := by
  unfold JX11_isSlip
  refine jr_iload_n K dX11_isSlip_0 rfl ?_
  refine jr_iconst K dX11_isSlip_1 (v := (nI 1)) (by decide) ?_
  refine jr_iconst K dX11_isSlip_2 (v := (nI 5)) (by decide) ?_
  refine jr_calli0 (jrun_S (As := [.int p0, .int (nI 1), .int (nI 5)]) (st := []) K (metX11_in K.hG p0 (nI 1) (nI 5) _) mtX11_in q1746 q1745 rfl rfl (Nat.le_of_ble_eq_true rfl) (by decide) ⟨Nat.zero_le _, Nat.zero_le _⟩ dX11_isSlip_3) (fun v3 => ?_)
  exact hret _ _ _ _ _ dX11_isSlip_6
theorem metX11_isSlip (hG : jG l D S0 A0) (p0 : Int32) (Qj : Int32 → JP) : Met l yX11_isSlip (ws_ yX11_isSlip cX11_isSlip 1 (some .boolean)) (jrm 13 0 0) (va_Pc [.int p0] (jB D S0 (JX11_isSlip p0 Qj))) (va_Qi Qj (fun σ t => jRep D S0.heap.size σ t.heap) (jA S0)) 0 0 (jA S0) :=
  jr_start hG (by decide) (Nat.le_of_ble_eq_true rfl) rfl fun p e s m below meth c K hr hn => wX11_isSlip K _ _ p0 Qj (fun _ _ _ _ _ d => jr_zret K hr d)
theorem wX11_shared_134 (K : JK p l R s m args meth c D S0 A0 10 cX11_shared "MoveNotesModel" 22) (bc bs : Nat) (this : Nat) (p1 : Int32) (p2 : Int32) (p3 : Int32) (k302 : Int32 → Int32 → JP) (hk302 : ∀ (y5_302 : Int32) (y6_302 : Int32), JR p l e R s m args below meth c Q D S0 10 bc bs (k302 y5_302 y6_302) 302 [none, none, none, some (.int p3), none, some (.int y5_302), some (.int y6_302), none, none, none] []) : ∀ (n : Nat) (x5_134 : Int32) (x6_134 : Int32) (x7_134 : Int32), JR p l e R s m args below meth c Q D S0 10 bc bs (jit (FX11_shared_134 this p1 p2 k302) (fun _ _ _ => jbot) n x5_134 x6_134 x7_134) 134 [some (.ref this), some (.int p1), some (.int p2), some (.int p3), none, some (.int x5_134), some (.int x6_134), some (.int x7_134), none, none] [] := by
  intro n
  induction n with
  | zero =>
    intro x5_134 x6_134 x7_134
    exact JR.bot
  | succ n ih134 =>
    intro x5_134 x6_134 x7_134
    show JR p l e R s m args below meth c Q D S0 10 bc bs (FX11_shared_134 this p1 p2 k302 (jit (FX11_shared_134 this p1 p2 k302) (fun _ _ _ => jbot) n) x5_134 x6_134 x7_134) 134 [some (.ref this), some (.int p1), some (.int p2), some (.int p3), none, some (.int x5_134), some (.int x6_134), some (.int x7_134), none, none] []
    generalize jit (FX11_shared_134 this p1 p2 k302) (fun _ _ _ => jbot) n = rec134 at ih134 ⊢
    unfold FX11_shared_134
    refine jr_iload K dX11_shared_134 rfl ?_
    refine jr_aload_n K dX11_shared_136 rfl ?_
    refine jr_getI K gf_X11_380 dX11_shared_137 (fun v137 => ?_)
    refine jr_icmp_ge K (tgt := 302) dX11_shared_140 (by decide) ?_ ?_
    · exact jr_weak (hk302 x5_134 x6_134) ⟨rfl, rfl, rfl, trivial⟩
    · refine jr_aload_n K dX11_shared_143 rfl ?_
      refine jr_getA K gf_X11_96 dX11_shared_144 (fun v144 => ?_)
      refine jr_iload K dX11_shared_147 rfl ?_
      refine jr_iald K dX11_shared_149 (fun v149 => ?_)
      refine jr_istore K (L' := [some (.ref this), some (.int p1), some (.int p2), some (.int p3), none, some (.int x5_134), some (.int x6_134), some (.int x7_134), some (.int v149), none]) dX11_shared_150 (by decide) rfl rfl ?_
      refine jr_aload_n K dX11_shared_152 rfl ?_
      refine jr_getA K gf_X11_90 dX11_shared_153 (fun v153 => ?_)
      refine jr_iload K dX11_shared_156 rfl ?_
      refine jr_iald K dX11_shared_158 (fun v158 => ?_)
      refine jr_istore K (L' := [some (.ref this), some (.int p1), some (.int p2), some (.int p3), none, some (.int x5_134), some (.int x6_134), some (.int x7_134), some (.int v149), some (.int v158)]) dX11_shared_159 (by decide) rfl rfl ?_
      refine jr_iload K dX11_shared_161 rfl ?_
      refine jr_join (fun (k296 : Int32 → Int32 → JP) => ∀ (x5_296 : Int32) (x6_296 : Int32), JR p l e R s m args below meth c Q D S0 10 bc bs (k296 x5_296 x6_296) 296 [some (.ref this), some (.int p1), some (.int p2), some (.int p3), none, some (.int x5_296), some (.int x6_296), some (.int x7_134), none, none] []) ?_ (fun k296 hk296 => ?_)
      · intro x5_296 x6_296
        refine jr_iinc K (v := (x7_134 + (nI 1))) (L' := [some (.ref this), some (.int p1), some (.int p2), some (.int p3), none, some (.int x5_296), some (.int x6_296), some (.int (x7_134 + (nI 1))), none, none]) dX11_shared_296 rfl rfl (by decide) rfl rfl ?_
        refine jr_goto K (tgt := 134) dX11_shared_299 (by decide) ?_
        exact jr_weak (ih134 x5_296 x6_296 (x7_134 + (nI 1))) ⟨rfl, rfl, rfl, rfl, rfl, rfl, rfl, trivial⟩
      refine jr_if_lt K (tgt := 296) dX11_shared_163 (by decide) ?_ ?_
      · exact jr_weak (hk296 x5_134 x6_134) ⟨rfl, rfl, rfl, rfl, rfl, rfl, rfl, trivial⟩
      · refine jr_aload_n K dX11_shared_166 rfl ?_
        refine jr_getA K gf_X11_87 dX11_shared_167 (fun v167 => ?_)
        refine jr_iload K dX11_shared_170 rfl ?_
        refine jr_iald K dX11_shared_172 (fun v172 => ?_)
        refine jr_calli0 (jrun_S (As := [.int v172]) (st := []) K (metX11_isSlip K.hG v172 _) mtX11_isSlip q2045 q2044 rfl rfl (Nat.le_of_ble_eq_true rfl) (by decide) ⟨Nat.zero_le _, Nat.zero_le _⟩ dX11_shared_173) (fun v173 => ?_)
        refine jr_if_ne K (tgt := 182) dX11_shared_176 (by decide) ?_ ?_
        · refine jr_iload K dX11_shared_182 rfl ?_
          refine jr_iload K dX11_shared_184 rfl ?_
          refine jr_join (fun (k204 : Int32 → JP) => ∀ (s1_204 : Int32), JR p l e R s m args below meth c Q D S0 10 bc bs (k204 s1_204) 204 [some (.ref this), some (.int p1), some (.int p2), some (.int p3), none, some (.int x5_134), none, some (.int x7_134), some (.int v149), some (.int v158)] [.int s1_204, .int x6_134]) ?_ (fun k204 hk204 => ?_)
          · intro s1_204
            refine jr_iadd K dX11_shared_204 ?_
            refine jr_istore K (L' := [some (.ref this), some (.int p1), some (.int p2), some (.int p3), none, some (.int x5_134), some (.int (x6_134 + s1_204)), some (.int x7_134), some (.int v149), some (.int v158)]) dX11_shared_205 (by decide) rfl rfl ?_
            refine jr_iload K dX11_shared_207 rfl ?_
            refine jr_iload K dX11_shared_209 rfl ?_
            refine jr_join (fun (k293 : Int32 → JP) => ∀ (s1_293 : Int32), JR p l e R s m args below meth c Q D S0 10 bc bs (k293 s1_293) 293 [some (.ref this), some (.int p1), some (.int p2), some (.int p3), none, none, some (.int (x6_134 + s1_204)), some (.int x7_134), none, none] [.int s1_293, .int x5_134]) ?_ (fun k293 hk293 => ?_)
            · intro s1_293
              refine jr_iadd K dX11_shared_293 ?_
              refine jr_istore K (L' := [some (.ref this), some (.int p1), some (.int p2), some (.int p3), none, some (.int (x5_134 + s1_293)), some (.int (x6_134 + s1_204)), some (.int x7_134), none, none]) dX11_shared_294 (by decide) rfl rfl ?_
              exact jr_weak (hk296 (x5_134 + s1_293) (x6_134 + s1_204)) ⟨rfl, rfl, rfl, rfl, rfl, rfl, rfl, trivial⟩
            refine jr_join (fun (k292 : JP) => JR p l e R s m args below meth c Q D S0 10 bc bs k292 292 [some (.ref this), some (.int p1), some (.int p2), some (.int p3), none, none, some (.int (x6_134 + s1_204)), some (.int x7_134), none, none] [.int x5_134]) ?_ (fun k292 hk292 => ?_)
            · refine jr_iconst K dX11_shared_292 (v := (nI 0)) (by decide) ?_
              exact jr_weak (hk293 (nI 0)) ⟨rfl, rfl, rfl, rfl, rfl, rfl, trivial⟩
            refine jr_if_lt K (tgt := 292) dX11_shared_211 (by decide) ?_ ?_
            · exact jr_weak (hk292) ⟨rfl, rfl, rfl, rfl, rfl, rfl, trivial⟩
            · refine jr_aload_n K dX11_shared_214 rfl ?_
              refine jr_getA K gf_X11_93 dX11_shared_215 (fun v215 => ?_)
              refine jr_iload K dX11_shared_218 rfl ?_
              refine jr_iald K dX11_shared_220 (fun v220 => ?_)
              refine jr_aload_n K dX11_shared_221 rfl ?_
              refine jr_getA K gf_X11_87 dX11_shared_222 (fun v222 => ?_)
              refine jr_iload K dX11_shared_225 rfl ?_
              refine jr_iald K dX11_shared_227 (fun v227 => ?_)
              refine jr_icmp_ne K (tgt := 292) dX11_shared_228 (by decide) ?_ ?_
              · exact jr_weak (hk292) ⟨rfl, rfl, rfl, rfl, rfl, rfl, trivial⟩
              · refine jr_aload_n K dX11_shared_231 rfl ?_
                refine jr_iload_n K dX11_shared_232 rfl ?_
                refine jr_iload K dX11_shared_233 rfl ?_
                refine jr_iconst K dX11_shared_235 (v := (nI 0)) (by decide) ?_
                refine jr_calli0 (jrun_V (As := [.int p1, .int v149, .int (nI 0)]) (st := [.int x5_134]) (ci := 11) K (metX11_ofNote K.hG this p1 v149 (nI 0) _) mtX11_ofNote mvX11_ofNote q1813 rfl rfl rfl (Nat.le_of_ble_eq_true rfl) (by decide) ⟨Nat.zero_le _, Nat.zero_le _⟩ dX11_shared_236) (fun v236 => ?_)
                refine jr_aload_n K dX11_shared_239 rfl ?_
                refine jr_iload_n K dX11_shared_240 rfl ?_
                refine jr_iload K dX11_shared_241 rfl ?_
                refine jr_iconst K dX11_shared_243 (v := (nI 0)) (by decide) ?_
                refine jr_calli0 (jrun_V (As := [.int p2, .int v158, .int (nI 0)]) (st := [.int v236, .int x5_134]) (ci := 11) K (metX11_ofNote K.hG this p2 v158 (nI 0) _) mtX11_ofNote mvX11_ofNote q1813 rfl rfl rfl (Nat.le_of_ble_eq_true rfl) (by decide) ⟨Nat.zero_le _, Nat.zero_le _⟩ dX11_shared_244) (fun v244 => ?_)
                refine jr_icmp_ne K (tgt := 292) dX11_shared_247 (by decide) ?_ ?_
                · exact jr_weak (hk292) ⟨rfl, rfl, rfl, rfl, rfl, rfl, trivial⟩
                · refine jr_aload_n K dX11_shared_250 rfl ?_
                  refine jr_iload_n K dX11_shared_251 rfl ?_
                  refine jr_iload K dX11_shared_252 rfl ?_
                  refine jr_iconst K dX11_shared_254 (v := (nI 2)) (by decide) ?_
                  refine jr_calli0 (jrun_V (As := [.int p1, .int v149, .int (nI 2)]) (st := [.int x5_134]) (ci := 11) K (metX11_ofNote K.hG this p1 v149 (nI 2) _) mtX11_ofNote mvX11_ofNote q1813 rfl rfl rfl (Nat.le_of_ble_eq_true rfl) (by decide) ⟨Nat.zero_le _, Nat.zero_le _⟩ dX11_shared_255) (fun v255 => ?_)
                  refine jr_aload_n K dX11_shared_258 rfl ?_
                  refine jr_iload_n K dX11_shared_259 rfl ?_
                  refine jr_iload K dX11_shared_260 rfl ?_
                  refine jr_iconst K dX11_shared_262 (v := (nI 2)) (by decide) ?_
                  refine jr_calli0 (jrun_V (As := [.int p2, .int v158, .int (nI 2)]) (st := [.int v255, .int x5_134]) (ci := 11) K (metX11_ofNote K.hG this p2 v158 (nI 2) _) mtX11_ofNote mvX11_ofNote q1813 rfl rfl rfl (Nat.le_of_ble_eq_true rfl) (by decide) ⟨Nat.zero_le _, Nat.zero_le _⟩ dX11_shared_263) (fun v263 => ?_)
                  refine jr_icmp_ne K (tgt := 292) dX11_shared_266 (by decide) ?_ ?_
                  · exact jr_weak (hk292) ⟨rfl, rfl, rfl, rfl, rfl, rfl, trivial⟩
                  · refine jr_aload_n K dX11_shared_269 rfl ?_
                    refine jr_iload_n K dX11_shared_270 rfl ?_
                    refine jr_iload K dX11_shared_271 rfl ?_
                    refine jr_iconst K dX11_shared_273 (v := (nI 3)) (by decide) ?_
                    refine jr_calli0 (jrun_V (As := [.int p1, .int v149, .int (nI 3)]) (st := [.int x5_134]) (ci := 11) K (metX11_ofNote K.hG this p1 v149 (nI 3) _) mtX11_ofNote mvX11_ofNote q1813 rfl rfl rfl (Nat.le_of_ble_eq_true rfl) (by decide) ⟨Nat.zero_le _, Nat.zero_le _⟩ dX11_shared_274) (fun v274 => ?_)
                    refine jr_aload_n K dX11_shared_277 rfl ?_
                    refine jr_iload_n K dX11_shared_278 rfl ?_
                    refine jr_iload K dX11_shared_279 rfl ?_
                    refine jr_iconst K dX11_shared_281 (v := (nI 3)) (by decide) ?_
                    refine jr_calli0 (jrun_V (As := [.int p2, .int v158, .int (nI 3)]) (st := [.int v274, .int x5_134]) (ci := 11) K (metX11_ofNote K.hG this p2 v158 (nI 3) _) mtX11_ofNote mvX11_ofNote q1813 rfl rfl rfl (Nat.le_of_ble_eq_true rfl) (by decide) ⟨Nat.zero_le _, Nat.zero_le _⟩ dX11_shared_282) (fun v282 => ?_)
                    refine jr_icmp_ne K (tgt := 292) dX11_shared_285 (by decide) ?_ ?_
                    · exact jr_weak (hk292) ⟨rfl, rfl, rfl, rfl, rfl, rfl, trivial⟩
                    · refine jr_iconst K dX11_shared_288 (v := (nI 1)) (by decide) ?_
                      refine jr_goto K (tgt := 293) dX11_shared_289 (by decide) ?_
                      exact jr_weak (hk293 (nI 1)) ⟨rfl, rfl, rfl, rfl, rfl, rfl, trivial⟩
          refine jr_join (fun (k199 : JP) => JR p l e R s m args below meth c Q D S0 10 bc bs k199 199 [some (.ref this), some (.int p1), some (.int p2), some (.int p3), none, some (.int x5_134), none, some (.int x7_134), some (.int v149), some (.int v158)] [.int x6_134]) ?_ (fun k199 hk199 => ?_)
          · refine jr_iconst K dX11_shared_199 (v := (nI 1)) (by decide) ?_
            refine jr_goto K (tgt := 204) dX11_shared_200 (by decide) ?_
            exact jr_weak (hk204 (nI 1)) ⟨rfl, rfl, rfl, rfl, rfl, rfl, rfl, rfl, trivial⟩
          refine jr_if_lt K (tgt := 199) dX11_shared_186 (by decide) ?_ ?_
          · exact jr_weak (hk199) ⟨rfl, rfl, rfl, rfl, rfl, rfl, rfl, rfl, trivial⟩
          · refine jr_aload_n K dX11_shared_189 rfl ?_
            refine jr_getA K gf_X11_93 dX11_shared_190 (fun v190 => ?_)
            refine jr_iload K dX11_shared_193 rfl ?_
            refine jr_iald K dX11_shared_195 (fun v195 => ?_)
            refine jr_if_ne K (tgt := 203) dX11_shared_196 (by decide) ?_ ?_
            · refine jr_iconst K dX11_shared_203 (v := (nI 0)) (by decide) ?_
              exact jr_weak (hk204 (nI 0)) ⟨rfl, rfl, rfl, rfl, rfl, rfl, rfl, rfl, trivial⟩
            · exact jr_weak (hk199) ⟨rfl, rfl, rfl, rfl, rfl, rfl, rfl, rfl, trivial⟩
        · refine jr_goto K (tgt := 296) dX11_shared_179 (by decide) ?_
          exact jr_weak (hk296 x5_134 x6_134) ⟨rfl, rfl, rfl, rfl, rfl, rfl, rfl, trivial⟩
theorem wX11_shared_91 (K : JK p l R s m args meth c D S0 A0 10 cX11_shared "MoveNotesModel" 22) (bc bs : Nat) (this : Nat) (p1 : Int32) (p2 : Int32) (p3 : Int32) (k120 : JP) (hk120 : JR p l e R s m args below meth c Q D S0 10 bc bs k120 120 [some (.ref this), some (.int p1), some (.int p2), some (.int p3), none, none, none, none, none, none] []) : ∀ (n : Nat) (x5_91 : Int32), JR p l e R s m args below meth c Q D S0 10 bc bs (jit (FX11_shared_91 this k120) (fun _ => jbot) n x5_91) 91 [some (.ref this), some (.int p1), some (.int p2), some (.int p3), none, some (.int x5_91), none, none, none, none] [] := by
  intro n
  induction n with
  | zero =>
    intro x5_91
    exact JR.bot
  | succ n ih91 =>
    intro x5_91
    show JR p l e R s m args below meth c Q D S0 10 bc bs (FX11_shared_91 this k120 (jit (FX11_shared_91 this k120) (fun _ => jbot) n) x5_91) 91 [some (.ref this), some (.int p1), some (.int p2), some (.int p3), none, some (.int x5_91), none, none, none, none] []
    generalize jit (FX11_shared_91 this k120) (fun _ => jbot) n = rec91 at ih91 ⊢
    unfold FX11_shared_91
    refine jr_iload K dX11_shared_91 rfl ?_
    refine jr_aload_n K dX11_shared_93 rfl ?_
    refine jr_getI K gf_X11_380 dX11_shared_94 (fun v94 => ?_)
    refine jr_icmp_ge K (tgt := 120) dX11_shared_97 (by decide) ?_ ?_
    · exact jr_weak (hk120) ⟨rfl, rfl, rfl, rfl, trivial⟩
    · refine jr_aload_n K dX11_shared_100 rfl ?_
      refine jr_getA K gf_X11_96 dX11_shared_101 (fun v101 => ?_)
      refine jr_iload K dX11_shared_104 rfl ?_
      refine jr_aload_n K dX11_shared_106 rfl ?_
      refine jr_getA K gf_X11_90 dX11_shared_107 (fun v107 => ?_)
      refine jr_iload K dX11_shared_110 rfl ?_
      refine jr_iald K dX11_shared_112 (fun v112 => ?_)
      refine jr_iast K dX11_shared_113 ?_
      refine jr_iinc K (v := (x5_91 + (nI 1))) (L' := [some (.ref this), some (.int p1), some (.int p2), some (.int p3), none, some (.int (x5_91 + (nI 1))), none, none, none, none]) dX11_shared_114 rfl rfl (by decide) rfl rfl ?_
      refine jr_goto K (tgt := 91) dX11_shared_117 (by decide) ?_
      exact jr_weak (ih91 (x5_91 + (nI 1))) ⟨rfl, rfl, rfl, rfl, rfl, trivial⟩
theorem wX11_shared_58 (K : JK p l R s m args meth c D S0 A0 10 cX11_shared "MoveNotesModel" 22) (bc bs : Nat) (this : Nat) (p1 : Int32) (p2 : Int32) (p3 : Int32) (k88 : JP) (hk88 : JR p l e R s m args below meth c Q D S0 10 bc bs k88 88 [some (.ref this), some (.int p1), some (.int p2), some (.int p3), none, none, none, none, none, none] []) : ∀ (n : Nat) (x5_58 : Int32), JR p l e R s m args below meth c Q D S0 10 bc bs (jit (FX11_shared_58 this p1 k88) (fun _ => jbot) n x5_58) 58 [some (.ref this), some (.int p1), some (.int p2), some (.int p3), none, some (.int x5_58), none, none, none, none] [] := by
  intro n
  induction n with
  | zero =>
    intro x5_58
    exact JR.bot
  | succ n ih58 =>
    intro x5_58
    show JR p l e R s m args below meth c Q D S0 10 bc bs (FX11_shared_58 this p1 k88 (jit (FX11_shared_58 this p1 k88) (fun _ => jbot) n) x5_58) 58 [some (.ref this), some (.int p1), some (.int p2), some (.int p3), none, some (.int x5_58), none, none, none, none] []
    generalize jit (FX11_shared_58 this p1 k88) (fun _ => jbot) n = rec58 at ih58 ⊢
    unfold FX11_shared_58
    refine jr_iload K dX11_shared_58 rfl ?_
    refine jr_aload_n K dX11_shared_60 rfl ?_
    refine jr_iload_n K dX11_shared_61 rfl ?_
    refine jr_calli0 (jrun_V (As := [.int p1]) (st := [.int x5_58]) (ci := 11) K (metX11_notes K.hG this p1 _) mtX11_notes mvX11_notes q1789 rfl rfl rfl (Nat.le_of_ble_eq_true rfl) (by decide) ⟨Nat.zero_le _, Nat.zero_le _⟩ dX11_shared_62) (fun v62 => ?_)
    refine jr_icmp_ge K (tgt := 88) dX11_shared_65 (by decide) ?_ ?_
    · exact jr_weak (hk88) ⟨rfl, rfl, rfl, rfl, trivial⟩
    · refine jr_aload_n K dX11_shared_68 rfl ?_
      refine jr_getA K gf_X11_93 dX11_shared_69 (fun v69 => ?_)
      refine jr_iload K dX11_shared_72 rfl ?_
      refine jr_aload_n K dX11_shared_74 rfl ?_
      refine jr_getA K gf_X11_87 dX11_shared_75 (fun v75 => ?_)
      refine jr_iload K dX11_shared_78 rfl ?_
      refine jr_iald K dX11_shared_80 (fun v80 => ?_)
      refine jr_iast K dX11_shared_81 ?_
      refine jr_iinc K (v := (x5_58 + (nI 1))) (L' := [some (.ref this), some (.int p1), some (.int p2), some (.int p3), none, some (.int (x5_58 + (nI 1))), none, none, none, none]) dX11_shared_82 rfl rfl (by decide) rfl rfl ?_
      refine jr_goto K (tgt := 58) dX11_shared_85 (by decide) ?_
      exact jr_weak (ih58 (x5_58 + (nI 1))) ⟨rfl, rfl, rfl, rfl, rfl, trivial⟩
theorem wX11_shared (K : JK p l R s m args meth c D S0 A0 10 cX11_shared "MoveNotesModel" 22) (bc bs : Nat) (this : Nat) (p1 : Int32) (p2 : Int32) (p3 : Int32) (Qj : Int32 → JP) (hret : jRetI p l e R s m args below meth c Q D S0 10 cX11_shared Qj) : JR p l e R s m args below meth c Q D S0 10 bc bs (JX11_shared this p1 p2 p3 Qj) 0 [some (.ref this), some (.int p1), some (.int p2), some (.int p3), none, none, none, none, none, none] [] := by
  unfold JX11_shared
  refine jr_aload_n K dX11_shared_0 rfl ?_
  refine jr_iconst K dX11_shared_1 (v := (nI 0)) (by decide) ?_
  refine jr_put K pf_X11_3 dX11_shared_2 rfl rfl ?_
  refine jr_aload_n K dX11_shared_5 rfl ?_
  refine jr_aload_n K dX11_shared_6 rfl ?_
  refine jr_iload_n K dX11_shared_7 rfl ?_
  refine jr_calli0 (jrun_V (As := [.int p1]) (st := [.ref this]) (ci := 11) K (metX11_noBook K.hG this p1 _) mtX11_noBook mvX11_noBook q1782 rfl rfl rfl (Nat.le_of_ble_eq_true rfl) (by decide) ⟨Nat.zero_le _, Nat.zero_le _⟩ dX11_shared_8) (fun v8 => ?_)
  refine jr_join (fun (k27 : Int32 → JP) => ∀ (s1_27 : Int32), JR p l e R s m args below meth c Q D S0 10 bc bs (k27 s1_27) 27 [some (.ref this), some (.int p1), some (.int p2), some (.int p3), none, none, none, none, none, none] [.int s1_27, .ref this]) ?_ (fun k27 hk27 => ?_)
  · intro s1_27
    refine jr_iconst K dX11_shared_27 (v := (nI 1)) (by decide) ?_
    refine jr_calli0 (jrun_V (As := [.int s1_27, .int (nI 1)]) (st := []) (ci := 11) K (metX11_throwsIf K.hG this s1_27 (nI 1) _) mtX11_throwsIf mvX11_throwsIf q1748 rfl rfl rfl (Nat.le_of_ble_eq_true rfl) (by decide) ⟨Nat.zero_le _, Nat.zero_le _⟩ dX11_shared_28) (fun v28 => ?_)
    refine jr_if_eq K (tgt := 36) dX11_shared_31 (by decide) ?_ ?_
    · refine jr_aload_n K dX11_shared_36 rfl ?_
      refine jr_calli0 (jrun_V (As := []) (st := []) (ci := 11) K (metX11_asksWhole K.hG this _) mtX11_asksWhole mvX11_asksWhole q1887 rfl rfl rfl (Nat.le_of_ble_eq_true rfl) (by decide) ⟨Nat.zero_le _, Nat.zero_le _⟩ dX11_shared_37) (fun v37 => ?_)
      refine jr_istore K (L' := [some (.ref this), some (.int p1), some (.int p2), some (.int p3), some (.int v37), none, none, none, none, none]) dX11_shared_40 (by decide) rfl rfl ?_
      refine jr_iload K dX11_shared_42 rfl ?_
      refine jr_if_ge K (tgt := 50) dX11_shared_44 (by decide) ?_ ?_
      · refine jr_aload_n K dX11_shared_50 rfl ?_
        refine jr_iload_n K dX11_shared_51 rfl ?_
        refine jr_callv0 (jrun_V (As := [.int p1]) (st := []) (ci := 11) K (metX11_follows K.hG this p1 _) mtX11_follows mvX11_follows q2007 rfl rfl rfl (Nat.le_of_ble_eq_true rfl) (by decide) ⟨Nat.zero_le _, Nat.zero_le _⟩ dX11_shared_52) ?_
        refine jr_iconst K dX11_shared_55 (v := (nI 0)) (by decide) ?_
        refine jr_istore K (L' := [some (.ref this), some (.int p1), some (.int p2), some (.int p3), some (.int v37), some (.int (nI 0)), none, none, none, none]) dX11_shared_56 (by decide) rfl rfl ?_
        refine jr_ex (fun n58 => ?_)
        refine jr_weak (wX11_shared_58 K bc bs this p1 p2 p3 _ ?_ n58 (nI 0)) ⟨rfl, rfl, rfl, rfl, rfl, trivial⟩
        · refine jr_iconst K dX11_shared_88 (v := (nI 0)) (by decide) ?_
          refine jr_istore K (L' := [some (.ref this), some (.int p1), some (.int p2), some (.int p3), none, some (.int (nI 0)), none, none, none, none]) dX11_shared_89 (by decide) rfl rfl ?_
          refine jr_ex (fun n91 => ?_)
          refine jr_weak (wX11_shared_91 K bc bs this p1 p2 p3 _ ?_ n91 (nI 0)) ⟨rfl, rfl, rfl, rfl, rfl, trivial⟩
          · refine jr_aload_n K dX11_shared_120 rfl ?_
            refine jr_iload_n K dX11_shared_121 rfl ?_
            refine jr_callv0 (jrun_V (As := [.int p2]) (st := []) (ci := 11) K (metX11_follows K.hG this p2 _) mtX11_follows mvX11_follows q2007 rfl rfl rfl (Nat.le_of_ble_eq_true rfl) (by decide) ⟨Nat.zero_le _, Nat.zero_le _⟩ dX11_shared_122) ?_
            refine jr_iconst K dX11_shared_125 (v := (nI 0)) (by decide) ?_
            refine jr_istore K (L' := [some (.ref this), some (.int p1), some (.int p2), some (.int p3), none, some (.int (nI 0)), none, none, none, none]) dX11_shared_126 (by decide) rfl rfl ?_
            refine jr_iconst K dX11_shared_128 (v := (nI 0)) (by decide) ?_
            refine jr_istore K (L' := [some (.ref this), some (.int p1), some (.int p2), some (.int p3), none, some (.int (nI 0)), some (.int (nI 0)), none, none, none]) dX11_shared_129 (by decide) rfl rfl ?_
            refine jr_iconst K dX11_shared_131 (v := (nI 0)) (by decide) ?_
            refine jr_istore K (L' := [some (.ref this), some (.int p1), some (.int p2), some (.int p3), none, some (.int (nI 0)), some (.int (nI 0)), some (.int (nI 0)), none, none]) dX11_shared_132 (by decide) rfl rfl ?_
            refine jr_ex (fun n134 => ?_)
            refine jr_weak (wX11_shared_134 K bc bs this p1 p2 p3 _ ?_ n134 (nI 0) (nI 0) (nI 0)) ⟨rfl, rfl, rfl, rfl, rfl, rfl, rfl, trivial⟩
            · intro y5_302 y6_302
              refine jr_iload_n K dX11_shared_302 rfl ?_
              refine jr_if_ne K (tgt := 311) dX11_shared_303 (by decide) ?_ ?_
              · refine jr_iload K dX11_shared_311 rfl ?_
                refine jr_iload K dX11_shared_313 rfl ?_
                refine jr_icmp_le K (tgt := 322) dX11_shared_315 (by decide) ?_ ?_
                · refine jr_iconst K dX11_shared_322 (v := (nI 0)) (by decide) ?_
                  exact hret _ _ _ _ _ dX11_shared_323
                · refine jr_iconst K dX11_shared_318 (v := (nI 1)) (by decide) ?_
                  refine jr_goto K (tgt := 323) dX11_shared_319 (by decide) ?_
                  exact hret _ _ _ _ _ dX11_shared_323
              · refine jr_iload K dX11_shared_306 rfl ?_
                refine jr_goto K (tgt := 323) dX11_shared_308 (by decide) ?_
                exact hret _ _ _ _ _ dX11_shared_323
      · refine jr_iload K dX11_shared_47 rfl ?_
        exact hret _ _ _ _ _ dX11_shared_49
    · refine jr_iconst K dX11_shared_34 (v := (nI 0)) (by decide) ?_
      exact hret _ _ _ _ _ dX11_shared_35
  refine jr_join (fun (k22 : JP) => JR p l e R s m args below meth c Q D S0 10 bc bs k22 22 [some (.ref this), some (.int p1), some (.int p2), some (.int p3), none, none, none, none, none, none] [.ref this]) ?_ (fun k22 hk22 => ?_)
  · refine jr_iconst K dX11_shared_22 (v := (nI 1)) (by decide) ?_
    refine jr_goto K (tgt := 27) dX11_shared_23 (by decide) ?_
    exact jr_weak (hk27 (nI 1)) ⟨rfl, rfl, rfl, rfl, trivial⟩
  refine jr_if_ne K (tgt := 22) dX11_shared_11 (by decide) ?_ ?_
  · exact jr_weak (hk22) ⟨rfl, rfl, rfl, rfl, trivial⟩
  · refine jr_aload_n K dX11_shared_14 rfl ?_
    refine jr_iload_n K dX11_shared_15 rfl ?_
    refine jr_calli0 (jrun_V (As := [.int p2]) (st := [.ref this]) (ci := 11) K (metX11_noBook K.hG this p2 _) mtX11_noBook mvX11_noBook q1782 rfl rfl rfl (Nat.le_of_ble_eq_true rfl) (by decide) ⟨Nat.zero_le _, Nat.zero_le _⟩ dX11_shared_16) (fun v16 => ?_)
    refine jr_if_eq K (tgt := 26) dX11_shared_19 (by decide) ?_ ?_
    · refine jr_iconst K dX11_shared_26 (v := (nI 0)) (by decide) ?_
      exact jr_weak (hk27 (nI 0)) ⟨rfl, rfl, rfl, rfl, trivial⟩
    · exact jr_weak (hk22) ⟨rfl, rfl, rfl, rfl, trivial⟩
theorem metX11_shared (hG : jG l D S0 A0) (this : Nat) (p1 : Int32) (p2 : Int32) (p3 : Int32) (Qj : Int32 → JP) : Met l yX11_shared (ws_ yX11_shared cX11_shared 10 (some .int)) (jrm 22 0 0) (va_Pc [.ref this, .int p1, .int p2, .int p3] (jB D S0 (JX11_shared this p1 p2 p3 Qj))) (va_Qi Qj (fun σ t => jRep D S0.heap.size σ t.heap) (jA S0)) 0 0 (jA S0) :=
  jr_start hG (by decide) (Nat.le_of_ble_eq_true rfl) rfl fun p e s m below meth c K hr hn => wX11_shared K _ _ this p1 p2 p3 Qj (fun _ _ _ _ _ d => jr_iret K hr rfl d)
theorem wX11_alike_84 (K : JK p l R s m args meth c D S0 A0 9 cX11_alike "MoveNotesModel" 15) (bc bs : Nat) (this : Nat) (p1 : Int32) (p2 : Int32) (x4_42 : Int32) (x5_55 : Int32) (k133 : Int32 → JP) (hk133 : ∀ (y7_133 : Int32), JR p l e R s m args below meth c Q D S0 9 bc bs (k133 y7_133) 133 [some (.ref this), some (.int p1), some (.int p2), some (.int (nI 25)), some (.int x4_42), some (.int x5_55), none, some (.int y7_133), none] []) : ∀ (n : Nat) (x7_84 : Int32) (x8_84 : Int32), JR p l e R s m args below meth c Q D S0 9 bc bs (jit (FX11_alike_84 this p1 p2 x4_42 x5_55 k133) (fun _ _ => jbot) n x7_84 x8_84) 84 [some (.ref this), some (.int p1), some (.int p2), some (.int (nI 25)), some (.int x4_42), some (.int x5_55), none, some (.int x7_84), some (.int x8_84)] [] := by
  intro n
  induction n with
  | zero =>
    intro x7_84 x8_84
    exact JR.bot
  | succ n ih84 =>
    intro x7_84 x8_84
    show JR p l e R s m args below meth c Q D S0 9 bc bs (FX11_alike_84 this p1 p2 x4_42 x5_55 k133 (jit (FX11_alike_84 this p1 p2 x4_42 x5_55 k133) (fun _ _ => jbot) n) x7_84 x8_84) 84 [some (.ref this), some (.int p1), some (.int p2), some (.int (nI 25)), some (.int x4_42), some (.int x5_55), none, some (.int x7_84), some (.int x8_84)] []
    generalize jit (FX11_alike_84 this p1 p2 x4_42 x5_55 k133) (fun _ _ => jbot) n = rec84 at ih84 ⊢
    unfold FX11_alike_84
    refine jr_iload K dX11_alike_84 rfl ?_
    refine jr_iconst K dX11_alike_86 (v := (nI 4)) (by decide) ?_
    refine jr_icmp_ge K (tgt := 133) dX11_alike_87 (by decide) ?_ ?_
    · exact jr_weak (hk133 x7_84) ⟨rfl, rfl, rfl, rfl, rfl, rfl, rfl, trivial⟩
    · refine jr_iload K dX11_alike_90 rfl ?_
      refine jr_join (fun (k125 : Int32 → JP) => ∀ (s0_125 : Int32), JR p l e R s m args below meth c Q D S0 9 bc bs (k125 s0_125) 125 [some (.ref this), some (.int p1), some (.int p2), some (.int (nI 25)), some (.int x4_42), some (.int x5_55), none, none, some (.int x8_84)] [.int s0_125]) ?_ (fun k125 hk125 => ?_)
      · intro s0_125
        refine jr_istore K (L' := [some (.ref this), some (.int p1), some (.int p2), some (.int (nI 25)), some (.int x4_42), some (.int x5_55), none, some (.int s0_125), some (.int x8_84)]) dX11_alike_125 (by decide) rfl rfl ?_
        refine jr_iinc K (v := (x8_84 + (nI 1))) (L' := [some (.ref this), some (.int p1), some (.int p2), some (.int (nI 25)), some (.int x4_42), some (.int x5_55), none, some (.int s0_125), some (.int (x8_84 + (nI 1)))]) dX11_alike_127 rfl rfl (by decide) rfl rfl ?_
        refine jr_goto K (tgt := 84) dX11_alike_130 (by decide) ?_
        exact jr_weak (ih84 s0_125 (x8_84 + (nI 1))) ⟨rfl, rfl, rfl, rfl, rfl, rfl, rfl, rfl, trivial⟩
      refine jr_join (fun (k124 : JP) => JR p l e R s m args below meth c Q D S0 9 bc bs k124 124 [some (.ref this), some (.int p1), some (.int p2), some (.int (nI 25)), some (.int x4_42), some (.int x5_55), none, none, some (.int x8_84)] []) ?_ (fun k124 hk124 => ?_)
      · refine jr_iconst K dX11_alike_124 (v := (nI 0)) (by decide) ?_
        exact jr_weak (hk125 (nI 0)) ⟨rfl, rfl, rfl, rfl, rfl, rfl, rfl, trivial⟩
      refine jr_if_eq K (tgt := 124) dX11_alike_92 (by decide) ?_ ?_
      · exact jr_weak (hk124) ⟨rfl, rfl, rfl, rfl, rfl, rfl, rfl, trivial⟩
      · refine jr_aload_n K dX11_alike_95 rfl ?_
        refine jr_iload_n K dX11_alike_96 rfl ?_
        refine jr_iload K dX11_alike_97 rfl ?_
        refine jr_iconst K dX11_alike_99 (v := (nI 1)) (by decide) ?_
        refine jr_isub K dX11_alike_100 ?_
        refine jr_iload K dX11_alike_101 rfl ?_
        refine jr_calli0 (jrun_V (As := [.int p1, .int (x4_42 - (nI 1)), .int x8_84]) (st := []) (ci := 11) K (metX11_ofNote K.hG this p1 (x4_42 - (nI 1)) x8_84 _) mtX11_ofNote mvX11_ofNote q1813 rfl rfl rfl (Nat.le_of_ble_eq_true rfl) (by decide) ⟨Nat.zero_le _, Nat.zero_le _⟩ dX11_alike_103) (fun v103 => ?_)
        refine jr_aload_n K dX11_alike_106 rfl ?_
        refine jr_iload_n K dX11_alike_107 rfl ?_
        refine jr_iload K dX11_alike_108 rfl ?_
        refine jr_iconst K dX11_alike_110 (v := (nI 1)) (by decide) ?_
        refine jr_isub K dX11_alike_111 ?_
        refine jr_iload K dX11_alike_112 rfl ?_
        refine jr_calli0 (jrun_V (As := [.int p2, .int (x5_55 - (nI 1)), .int x8_84]) (st := [.int v103]) (ci := 11) K (metX11_ofNote K.hG this p2 (x5_55 - (nI 1)) x8_84 _) mtX11_ofNote mvX11_ofNote q1813 rfl rfl rfl (Nat.le_of_ble_eq_true rfl) (by decide) ⟨Nat.zero_le _, Nat.zero_le _⟩ dX11_alike_114) (fun v114 => ?_)
        refine jr_icmp_ne K (tgt := 124) dX11_alike_117 (by decide) ?_ ?_
        · exact jr_weak (hk124) ⟨rfl, rfl, rfl, rfl, rfl, rfl, rfl, trivial⟩
        · refine jr_iconst K dX11_alike_120 (v := (nI 1)) (by decide) ?_
          refine jr_goto K (tgt := 125) dX11_alike_121 (by decide) ?_
          exact jr_weak (hk125 (nI 1)) ⟨rfl, rfl, rfl, rfl, rfl, rfl, rfl, trivial⟩
theorem wX11_alike_55 (K : JK p l R s m args meth c D S0 A0 9 cX11_alike "MoveNotesModel" 15) (bc bs : Nat) (this : Nat) (p1 : Int32) (p2 : Int32) (x4_42 : Int32) (k212 : JP) (hk212 : JR p l e R s m args below meth c Q D S0 9 bc bs k212 212 [some (.ref this), some (.int p1), some (.int p2), some (.int (nI 25)), some (.int x4_42), none, none, none, none] []) : ∀ (n : Nat) (x5_55 : Int32), JR p l e R s m args below meth c Q D S0 9 bc bs (jit (FX11_alike_55 this p1 p2 x4_42 k212) (fun _ => jbot) n x5_55) 55 [some (.ref this), some (.int p1), some (.int p2), some (.int (nI 25)), some (.int x4_42), some (.int x5_55), none, none, none] [] := by
  intro n
  induction n with
  | zero =>
    intro x5_55
    exact JR.bot
  | succ n ih55 =>
    intro x5_55
    show JR p l e R s m args below meth c Q D S0 9 bc bs (FX11_alike_55 this p1 p2 x4_42 k212 (jit (FX11_alike_55 this p1 p2 x4_42 k212) (fun _ => jbot) n) x5_55) 55 [some (.ref this), some (.int p1), some (.int p2), some (.int (nI 25)), some (.int x4_42), some (.int x5_55), none, none, none] []
    generalize jit (FX11_alike_55 this p1 p2 x4_42 k212) (fun _ => jbot) n = rec55 at ih55 ⊢
    unfold FX11_alike_55
    refine jr_iload K dX11_alike_55 rfl ?_
    refine jr_aload_n K dX11_alike_57 rfl ?_
    refine jr_iload_n K dX11_alike_58 rfl ?_
    refine jr_calli0 (jrun_V (As := [.int p2]) (st := [.int x5_55]) (ci := 11) K (metX11_notes K.hG this p2 _) mtX11_notes mvX11_notes q1789 rfl rfl rfl (Nat.le_of_ble_eq_true rfl) (by decide) ⟨Nat.zero_le _, Nat.zero_le _⟩ dX11_alike_59) (fun v59 => ?_)
    refine jr_icmp_gt K (tgt := 212) dX11_alike_62 (by decide) ?_ ?_
    · exact jr_weak (hk212) ⟨rfl, rfl, rfl, rfl, rfl, trivial⟩
    · refine jr_iconst K dX11_alike_65 (v := (nI 0)) (by decide) ?_
      refine jr_istore K (L' := [some (.ref this), some (.int p1), some (.int p2), some (.int (nI 25)), some (.int x4_42), some (.int x5_55), some (.int (nI 0)), none, none]) dX11_alike_66 (by decide) rfl rfl ?_
      refine jr_iload K dX11_alike_68 rfl ?_
      refine jr_join (fun (k192 : Int32 → JP) => ∀ (x6_192 : Int32), JR p l e R s m args below meth c Q D S0 9 bc bs (k192 x6_192) 192 [some (.ref this), some (.int p1), some (.int p2), some (.int (nI 25)), some (.int x4_42), some (.int x5_55), some (.int x6_192), none, none] []) ?_ (fun k192 hk192 => ?_)
      · intro x6_192
        refine jr_aload_n K dX11_alike_192 rfl ?_
        refine jr_getA K gf_X11_99 dX11_alike_193 (fun v193 => ?_)
        refine jr_iload_n K dX11_alike_196 rfl ?_
        refine jr_iload K dX11_alike_197 rfl ?_
        refine jr_imul K dX11_alike_199 ?_
        refine jr_iload K dX11_alike_200 rfl ?_
        refine jr_iadd K dX11_alike_202 ?_
        refine jr_iload K dX11_alike_203 rfl ?_
        refine jr_iast K dX11_alike_205 ?_
        refine jr_iinc K (v := (x5_55 + (nI 1))) (L' := [some (.ref this), some (.int p1), some (.int p2), some (.int (nI 25)), some (.int x4_42), some (.int (x5_55 + (nI 1))), some (.int x6_192), none, none]) dX11_alike_206 rfl rfl (by decide) rfl rfl ?_
        refine jr_goto K (tgt := 55) dX11_alike_209 (by decide) ?_
        exact jr_weak (ih55 (x5_55 + (nI 1))) ⟨rfl, rfl, rfl, rfl, rfl, rfl, trivial⟩
      refine jr_if_le K (tgt := 192) dX11_alike_70 (by decide) ?_ ?_
      · exact jr_weak (hk192 (nI 0)) ⟨rfl, rfl, rfl, rfl, rfl, rfl, rfl, trivial⟩
      · refine jr_iload K dX11_alike_73 rfl ?_
        refine jr_if_le K (tgt := 192) dX11_alike_75 (by decide) ?_ ?_
        · exact jr_weak (hk192 (nI 0)) ⟨rfl, rfl, rfl, rfl, rfl, rfl, rfl, trivial⟩
        · refine jr_iconst K dX11_alike_78 (v := (nI 1)) (by decide) ?_
          refine jr_istore K (L' := [some (.ref this), some (.int p1), some (.int p2), some (.int (nI 25)), some (.int x4_42), some (.int x5_55), some (.int (nI 0)), some (.int (nI 1)), none]) dX11_alike_79 (by decide) rfl rfl ?_
          refine jr_iconst K dX11_alike_81 (v := (nI 0)) (by decide) ?_
          refine jr_istore K (L' := [some (.ref this), some (.int p1), some (.int p2), some (.int (nI 25)), some (.int x4_42), some (.int x5_55), some (.int (nI 0)), some (.int (nI 1)), some (.int (nI 0))]) dX11_alike_82 (by decide) rfl rfl ?_
          refine jr_ex (fun n84 => ?_)
          refine jr_weak (wX11_alike_84 K bc bs this p1 p2 x4_42 x5_55 _ ?_ n84 (nI 1) (nI 0)) ⟨rfl, rfl, rfl, rfl, rfl, rfl, rfl, rfl, trivial⟩
          · intro y7_133
            refine jr_iload K dX11_alike_133 rfl ?_
            refine jr_join (fun (k190 : Int32 → JP) => ∀ (s0_190 : Int32), JR p l e R s m args below meth c Q D S0 9 bc bs (k190 s0_190) 190 [some (.ref this), some (.int p1), some (.int p2), some (.int (nI 25)), some (.int x4_42), some (.int x5_55), none, none, none] [.int s0_190]) ?_ (fun k190 hk190 => ?_)
            · intro s0_190
              refine jr_istore K (L' := [some (.ref this), some (.int p1), some (.int p2), some (.int (nI 25)), some (.int x4_42), some (.int x5_55), some (.int s0_190), none, none]) dX11_alike_190 (by decide) rfl rfl ?_
              exact jr_weak (hk192 s0_190) ⟨rfl, rfl, rfl, rfl, rfl, rfl, rfl, trivial⟩
            refine jr_if_eq K (tgt := 159) dX11_alike_135 (by decide) ?_ ?_
            · refine jr_aload_n K dX11_alike_159 rfl ?_
              refine jr_getA K gf_X11_99 dX11_alike_160 (fun v160 => ?_)
              refine jr_iload_n K dX11_alike_163 rfl ?_
              refine jr_iload K dX11_alike_164 rfl ?_
              refine jr_iconst K dX11_alike_166 (v := (nI 1)) (by decide) ?_
              refine jr_isub K dX11_alike_167 ?_
              refine jr_imul K dX11_alike_168 ?_
              refine jr_iload K dX11_alike_169 rfl ?_
              refine jr_iadd K dX11_alike_171 ?_
              refine jr_iald K dX11_alike_172 (fun v172 => ?_)
              refine jr_aload_n K dX11_alike_173 rfl ?_
              refine jr_getA K gf_X11_99 dX11_alike_174 (fun v174 => ?_)
              refine jr_iload_n K dX11_alike_177 rfl ?_
              refine jr_iload K dX11_alike_178 rfl ?_
              refine jr_imul K dX11_alike_180 ?_
              refine jr_iload K dX11_alike_181 rfl ?_
              refine jr_iadd K dX11_alike_183 ?_
              refine jr_iconst K dX11_alike_184 (v := (nI 1)) (by decide) ?_
              refine jr_isub K dX11_alike_185 ?_
              refine jr_iald K dX11_alike_186 (fun v186 => ?_)
              refine jr_max K q1942 (by decide) (Nat.le_of_ble_eq_true rfl) dX11_alike_187 ?_
              exact jr_weak (hk190 (jmax v172 v186)) ⟨rfl, rfl, rfl, rfl, rfl, rfl, trivial⟩
            · refine jr_iconst K dX11_alike_138 (v := (nI 1)) (by decide) ?_
              refine jr_aload_n K dX11_alike_139 rfl ?_
              refine jr_getA K gf_X11_99 dX11_alike_140 (fun v140 => ?_)
              refine jr_iload_n K dX11_alike_143 rfl ?_
              refine jr_iload K dX11_alike_144 rfl ?_
              refine jr_iconst K dX11_alike_146 (v := (nI 1)) (by decide) ?_
              refine jr_isub K dX11_alike_147 ?_
              refine jr_imul K dX11_alike_148 ?_
              refine jr_iload K dX11_alike_149 rfl ?_
              refine jr_iadd K dX11_alike_151 ?_
              refine jr_iconst K dX11_alike_152 (v := (nI 1)) (by decide) ?_
              refine jr_isub K dX11_alike_153 ?_
              refine jr_iald K dX11_alike_154 (fun v154 => ?_)
              refine jr_iadd K dX11_alike_155 ?_
              refine jr_goto K (tgt := 190) dX11_alike_156 (by decide) ?_
              exact jr_weak (hk190 ((nI 1) + v154)) ⟨rfl, rfl, rfl, rfl, rfl, rfl, trivial⟩
theorem wX11_alike_42 (K : JK p l R s m args meth c D S0 A0 9 cX11_alike "MoveNotesModel" 15) (bc bs : Nat) (this : Nat) (p1 : Int32) (p2 : Int32) (k218 : JP) (hk218 : JR p l e R s m args below meth c Q D S0 9 bc bs k218 218 [some (.ref this), some (.int p1), some (.int p2), some (.int (nI 25)), none, none, none, none, none] []) : ∀ (n : Nat) (x4_42 : Int32), JR p l e R s m args below meth c Q D S0 9 bc bs (jit (FX11_alike_42 this p1 p2 k218) (fun _ => jbot) n x4_42) 42 [some (.ref this), some (.int p1), some (.int p2), some (.int (nI 25)), some (.int x4_42), none, none, none, none] [] := by
  intro n
  induction n with
  | zero =>
    intro x4_42
    exact JR.bot
  | succ n ih42 =>
    intro x4_42
    show JR p l e R s m args below meth c Q D S0 9 bc bs (FX11_alike_42 this p1 p2 k218 (jit (FX11_alike_42 this p1 p2 k218) (fun _ => jbot) n) x4_42) 42 [some (.ref this), some (.int p1), some (.int p2), some (.int (nI 25)), some (.int x4_42), none, none, none, none] []
    generalize jit (FX11_alike_42 this p1 p2 k218) (fun _ => jbot) n = rec42 at ih42 ⊢
    unfold FX11_alike_42
    refine jr_iload K dX11_alike_42 rfl ?_
    refine jr_aload_n K dX11_alike_44 rfl ?_
    refine jr_iload_n K dX11_alike_45 rfl ?_
    refine jr_calli0 (jrun_V (As := [.int p1]) (st := [.int x4_42]) (ci := 11) K (metX11_notes K.hG this p1 _) mtX11_notes mvX11_notes q1789 rfl rfl rfl (Nat.le_of_ble_eq_true rfl) (by decide) ⟨Nat.zero_le _, Nat.zero_le _⟩ dX11_alike_46) (fun v46 => ?_)
    refine jr_icmp_gt K (tgt := 218) dX11_alike_49 (by decide) ?_ ?_
    · exact jr_weak (hk218) ⟨rfl, rfl, rfl, rfl, trivial⟩
    · refine jr_iconst K dX11_alike_52 (v := (nI 0)) (by decide) ?_
      refine jr_istore K (L' := [some (.ref this), some (.int p1), some (.int p2), some (.int (nI 25)), some (.int x4_42), some (.int (nI 0)), none, none, none]) dX11_alike_53 (by decide) rfl rfl ?_
      refine jr_ex (fun n55 => ?_)
      refine jr_weak (wX11_alike_55 K bc bs this p1 p2 x4_42 _ ?_ n55 (nI 0)) ⟨rfl, rfl, rfl, rfl, rfl, rfl, trivial⟩
      · refine jr_iinc K (v := (x4_42 + (nI 1))) (L' := [some (.ref this), some (.int p1), some (.int p2), some (.int (nI 25)), some (.int (x4_42 + (nI 1))), none, none, none, none]) dX11_alike_212 rfl rfl (by decide) rfl rfl ?_
        refine jr_goto K (tgt := 42) dX11_alike_215 (by decide) ?_
        exact jr_weak (ih42 (x4_42 + (nI 1))) ⟨rfl, rfl, rfl, rfl, rfl, trivial⟩
theorem wX11_alike (K : JK p l R s m args meth c D S0 A0 9 cX11_alike "MoveNotesModel" 15) (bc bs : Nat) (this : Nat) (p1 : Int32) (p2 : Int32) (Qj : Int32 → JP) (hret : jRetI p l e R s m args below meth c Q D S0 9 cX11_alike Qj) : JR p l e R s m args below meth c Q D S0 9 bc bs (JX11_alike this p1 p2 Qj) 0 [some (.ref this), some (.int p1), some (.int p2), none, none, none, none, none, none] [] := by
  unfold JX11_alike
  refine jr_aload_n K dX11_alike_0 rfl ?_
  refine jr_iconst K dX11_alike_1 (v := (nI 0)) (by decide) ?_
  refine jr_put K pf_X11_3 dX11_alike_2 rfl rfl ?_
  refine jr_aload_n K dX11_alike_5 rfl ?_
  refine jr_aload_n K dX11_alike_6 rfl ?_
  refine jr_iload_n K dX11_alike_7 rfl ?_
  refine jr_calli0 (jrun_V (As := [.int p1]) (st := [.ref this]) (ci := 11) K (metX11_noBook K.hG this p1 _) mtX11_noBook mvX11_noBook q1782 rfl rfl rfl (Nat.le_of_ble_eq_true rfl) (by decide) ⟨Nat.zero_le _, Nat.zero_le _⟩ dX11_alike_8) (fun v8 => ?_)
  refine jr_join (fun (k27 : Int32 → JP) => ∀ (s1_27 : Int32), JR p l e R s m args below meth c Q D S0 9 bc bs (k27 s1_27) 27 [some (.ref this), some (.int p1), some (.int p2), none, none, none, none, none, none] [.int s1_27, .ref this]) ?_ (fun k27 hk27 => ?_)
  · intro s1_27
    refine jr_iconst K dX11_alike_27 (v := (nI 1)) (by decide) ?_
    refine jr_calli0 (jrun_V (As := [.int s1_27, .int (nI 1)]) (st := []) (ci := 11) K (metX11_throwsIf K.hG this s1_27 (nI 1) _) mtX11_throwsIf mvX11_throwsIf q1748 rfl rfl rfl (Nat.le_of_ble_eq_true rfl) (by decide) ⟨Nat.zero_le _, Nat.zero_le _⟩ dX11_alike_28) (fun v28 => ?_)
    refine jr_if_eq K (tgt := 36) dX11_alike_31 (by decide) ?_ ?_
    · refine jr_bipush K dX11_alike_36 (v := (nI 25)) (by decide) ?_
      refine jr_istore_n K (L' := [some (.ref this), some (.int p1), some (.int p2), some (.int (nI 25)), none, none, none, none, none]) dX11_alike_38 (by decide) rfl rfl ?_
      refine jr_iconst K dX11_alike_39 (v := (nI 0)) (by decide) ?_
      refine jr_istore K (L' := [some (.ref this), some (.int p1), some (.int p2), some (.int (nI 25)), some (.int (nI 0)), none, none, none, none]) dX11_alike_40 (by decide) rfl rfl ?_
      refine jr_ex (fun n42 => ?_)
      refine jr_weak (wX11_alike_42 K bc bs this p1 p2 _ ?_ n42 (nI 0)) ⟨rfl, rfl, rfl, rfl, rfl, trivial⟩
      · refine jr_aload_n K dX11_alike_218 rfl ?_
        refine jr_getA K gf_X11_99 dX11_alike_219 (fun v219 => ?_)
        refine jr_iload_n K dX11_alike_222 rfl ?_
        refine jr_aload_n K dX11_alike_223 rfl ?_
        refine jr_iload_n K dX11_alike_224 rfl ?_
        refine jr_calli0 (jrun_V (As := [.int p1]) (st := [.int (nI 25), .ref v219]) (ci := 11) K (metX11_notes K.hG this p1 _) mtX11_notes mvX11_notes q1789 rfl rfl rfl (Nat.le_of_ble_eq_true rfl) (by decide) ⟨Nat.zero_le _, Nat.zero_le _⟩ dX11_alike_225) (fun v225 => ?_)
        refine jr_imul K dX11_alike_228 ?_
        refine jr_aload_n K dX11_alike_229 rfl ?_
        refine jr_iload_n K dX11_alike_230 rfl ?_
        refine jr_calli0 (jrun_V (As := [.int p2]) (st := [.int ((nI 25) * v225), .ref v219]) (ci := 11) K (metX11_notes K.hG this p2 _) mtX11_notes mvX11_notes q1789 rfl rfl rfl (Nat.le_of_ble_eq_true rfl) (by decide) ⟨Nat.zero_le _, Nat.zero_le _⟩ dX11_alike_231) (fun v231 => ?_)
        refine jr_iadd K dX11_alike_234 ?_
        refine jr_iald K dX11_alike_235 (fun v235 => ?_)
        exact hret _ _ _ _ _ dX11_alike_236
    · refine jr_iconst K dX11_alike_34 (v := (nI 0)) (by decide) ?_
      exact hret _ _ _ _ _ dX11_alike_35
  refine jr_join (fun (k22 : JP) => JR p l e R s m args below meth c Q D S0 9 bc bs k22 22 [some (.ref this), some (.int p1), some (.int p2), none, none, none, none, none, none] [.ref this]) ?_ (fun k22 hk22 => ?_)
  · refine jr_iconst K dX11_alike_22 (v := (nI 1)) (by decide) ?_
    refine jr_goto K (tgt := 27) dX11_alike_23 (by decide) ?_
    exact jr_weak (hk27 (nI 1)) ⟨rfl, rfl, rfl, trivial⟩
  refine jr_if_ne K (tgt := 22) dX11_alike_11 (by decide) ?_ ?_
  · exact jr_weak (hk22) ⟨rfl, rfl, rfl, trivial⟩
  · refine jr_aload_n K dX11_alike_14 rfl ?_
    refine jr_iload_n K dX11_alike_15 rfl ?_
    refine jr_calli0 (jrun_V (As := [.int p2]) (st := [.ref this]) (ci := 11) K (metX11_noBook K.hG this p2 _) mtX11_noBook mvX11_noBook q1782 rfl rfl rfl (Nat.le_of_ble_eq_true rfl) (by decide) ⟨Nat.zero_le _, Nat.zero_le _⟩ dX11_alike_16) (fun v16 => ?_)
    refine jr_if_eq K (tgt := 26) dX11_alike_19 (by decide) ?_ ?_
    · refine jr_iconst K dX11_alike_26 (v := (nI 0)) (by decide) ?_
      exact jr_weak (hk27 (nI 0)) ⟨rfl, rfl, rfl, trivial⟩
    · exact jr_weak (hk22) ⟨rfl, rfl, rfl, trivial⟩
theorem metX11_alike (hG : jG l D S0 A0) (this : Nat) (p1 : Int32) (p2 : Int32) (Qj : Int32 → JP) : Met l yX11_alike (ws_ yX11_alike cX11_alike 9 (some .int)) (jrm 15 0 0) (va_Pc [.ref this, .int p1, .int p2] (jB D S0 (JX11_alike this p1 p2 Qj))) (va_Qi Qj (fun σ t => jRep D S0.heap.size σ t.heap) (jA S0)) 0 0 (jA S0) :=
  jr_start hG (by decide) (Nat.le_of_ble_eq_true rfl) rfl fun p e s m below meth c K hr hn => wX11_alike K _ _ this p1 p2 Qj (fun _ _ _ _ _ d => jr_iret K hr rfl d)
theorem wX11_way (K : JK p l R s m args meth c D S0 A0 6 cX11_way "MoveNotesModel" 21) (bc bs : Nat) (this : Nat) (p1 : Int32) (Qj : Int32 → JP) (hret : jRetI p l e R s m args below meth c Q D S0 6 cX11_way Qj) : JR p l e R s m args below meth c Q D S0 6 bc bs (JX11_way this p1 Qj) 0 [some (.ref this), some (.int p1), none, none, none, none] [] := by
  unfold JX11_way
  refine jr_aload_n K dX11_way_0 rfl ?_
  refine jr_iconst K dX11_way_1 (v := (nI 0)) (by decide) ?_
  refine jr_put K pf_X11_3 dX11_way_2 rfl rfl ?_
  refine jr_aload_n K dX11_way_5 rfl ?_
  refine jr_aload_n K dX11_way_6 rfl ?_
  refine jr_iload_n K dX11_way_7 rfl ?_
  refine jr_calli0 (jrun_V (As := [.int p1]) (st := [.ref this]) (ci := 11) K (metX11_noBook K.hG this p1 _) mtX11_noBook mvX11_noBook q1782 rfl rfl rfl (Nat.le_of_ble_eq_true rfl) (by decide) ⟨Nat.zero_le _, Nat.zero_le _⟩ dX11_way_8) (fun v8 => ?_)
  refine jr_iconst K dX11_way_11 (v := (nI 1)) (by decide) ?_
  refine jr_calli0 (jrun_V (As := [.int v8, .int (nI 1)]) (st := []) (ci := 11) K (metX11_throwsIf K.hG this v8 (nI 1) _) mtX11_throwsIf mvX11_throwsIf q1748 rfl rfl rfl (Nat.le_of_ble_eq_true rfl) (by decide) ⟨Nat.zero_le _, Nat.zero_le _⟩ dX11_way_12) (fun v12 => ?_)
  refine jr_if_eq K (tgt := 20) dX11_way_15 (by decide) ?_ ?_
  · refine jr_aload_n K dX11_way_20 rfl ?_
    refine jr_callv0 (jrun_V (As := []) (st := []) (ci := 11) K (metX11_asksAll K.hG this _) mtX11_asksAll mvX11_asksAll q1891 rfl rfl rfl (Nat.le_of_ble_eq_true rfl) (by decide) ⟨Nat.zero_le _, Nat.zero_le _⟩ dX11_way_21) ?_
    refine jr_aload_n K dX11_way_24 rfl ?_
    refine jr_iconst K dX11_way_25 (v := (nI 1)) (by decide) ?_
    refine jr_iload_n K dX11_way_26 rfl ?_
    refine jr_ishl K dX11_way_27 ?_
    refine jr_put K pf_X11_314 dX11_way_28 rfl rfl ?_
    refine jr_aload_n K dX11_way_31 rfl ?_
    refine jr_getA K gf_X11_47 dX11_way_32 (fun v32 => ?_)
    refine jr_iload_n K dX11_way_35 rfl ?_
    refine jr_iconst K dX11_way_36 (v := (nI 0)) (by decide) ?_
    refine jr_iast K dX11_way_37 ?_
    refine jr_aload_n K dX11_way_38 rfl ?_
    refine jr_calli0 (jrun_V (As := []) (st := []) (ci := 11) K (metX11_asks K.hG this _) mtX11_asks mvX11_asks q1895 rfl rfl rfl (Nat.le_of_ble_eq_true rfl) (by decide) ⟨Nat.zero_le _, Nat.zero_le _⟩ dX11_way_39) (fun v39 => ?_)
    refine jr_istore_n K (L' := [some (.ref this), some (.int p1), some (.int v39), none, none, none]) dX11_way_42 (by decide) rfl rfl ?_
    refine jr_aload_n K dX11_way_43 rfl ?_
    refine jr_getA K gf_X11_47 dX11_way_44 (fun v44 => ?_)
    refine jr_iload_n K dX11_way_47 rfl ?_
    refine jr_iconst K dX11_way_48 (v := (nI 1)) (by decide) ?_
    refine jr_iast K dX11_way_49 ?_
    refine jr_aload_n K dX11_way_50 rfl ?_
    refine jr_calli0 (jrun_V (As := []) (st := []) (ci := 11) K (metX11_asks K.hG this _) mtX11_asks mvX11_asks q1895 rfl rfl rfl (Nat.le_of_ble_eq_true rfl) (by decide) ⟨Nat.zero_le _, Nat.zero_le _⟩ dX11_way_51) (fun v51 => ?_)
    refine jr_istore_n K (L' := [some (.ref this), some (.int p1), some (.int v39), some (.int v51), none, none]) dX11_way_54 (by decide) rfl rfl ?_
    refine jr_iload_n K dX11_way_55 rfl ?_
    refine jr_bipush K dX11_way_56 (v := (-2)) (by decide) ?_
    refine jr_icmp_eq K (tgt := 67) dX11_way_58 (by decide) ?_ ?_
    · refine jr_bipush K dX11_way_67 (v := (-2)) (by decide) ?_
      exact hret _ _ _ _ _ dX11_way_69
    · refine jr_iload_n K dX11_way_61 rfl ?_
      refine jr_bipush K dX11_way_62 (v := (-2)) (by decide) ?_
      refine jr_icmp_ne K (tgt := 70) dX11_way_64 (by decide) ?_ ?_
      · refine jr_iload_n K dX11_way_70 rfl ?_
        refine jr_join (fun (k81 : Int32 → JP) => ∀ (s0_81 : Int32), JR p l e R s m args below meth c Q D S0 6 bc bs (k81 s0_81) 81 [none, none, none, some (.int v51), none, none] [.int s0_81]) ?_ (fun k81 hk81 => ?_)
        · intro s0_81
          refine jr_istore K (L' := [none, none, none, some (.int v51), some (.int s0_81), none]) dX11_way_81 (by decide) rfl rfl ?_
          refine jr_iload_n K dX11_way_83 rfl ?_
          refine jr_join (fun (k94 : Int32 → JP) => ∀ (s0_94 : Int32), JR p l e R s m args below meth c Q D S0 6 bc bs (k94 s0_94) 94 [none, none, none, none, some (.int s0_81), none] [.int s0_94]) ?_ (fun k94 hk94 => ?_)
          · intro s0_94
            refine jr_istore K (L' := [none, none, none, none, some (.int s0_81), some (.int s0_94)]) dX11_way_94 (by decide) rfl rfl ?_
            refine jr_iload K dX11_way_96 rfl ?_
            refine jr_iload K dX11_way_98 rfl ?_
            refine jr_icmp_ge K (tgt := 107) dX11_way_100 (by decide) ?_ ?_
            · refine jr_iload K dX11_way_107 rfl ?_
              refine jr_iload K dX11_way_109 rfl ?_
              refine jr_icmp_ge K (tgt := 118) dX11_way_111 (by decide) ?_ ?_
              · refine jr_bipush K dX11_way_118 (v := (-3)) (by decide) ?_
                exact hret _ _ _ _ _ dX11_way_120
              · refine jr_iconst K dX11_way_114 (v := (nI 1)) (by decide) ?_
                refine jr_goto K (tgt := 120) dX11_way_115 (by decide) ?_
                exact hret _ _ _ _ _ dX11_way_120
            · refine jr_iconst K dX11_way_103 (v := (nI 0)) (by decide) ?_
              refine jr_goto K (tgt := 120) dX11_way_104 (by decide) ?_
              exact hret _ _ _ _ _ dX11_way_120
          refine jr_if_ge K (tgt := 93) dX11_way_84 (by decide) ?_ ?_
          · refine jr_iload_n K dX11_way_93 rfl ?_
            exact jr_weak (hk94 v51) ⟨rfl, trivial⟩
          · refine jr_sipush K dX11_way_87 (v := (nI 1000)) (by decide) ?_
            refine jr_goto K (tgt := 94) dX11_way_90 (by decide) ?_
            exact jr_weak (hk94 (nI 1000)) ⟨rfl, trivial⟩
        refine jr_if_ge K (tgt := 80) dX11_way_71 (by decide) ?_ ?_
        · refine jr_iload_n K dX11_way_80 rfl ?_
          exact jr_weak (hk81 v39) ⟨rfl, trivial⟩
        · refine jr_sipush K dX11_way_74 (v := (nI 1000)) (by decide) ?_
          refine jr_goto K (tgt := 81) dX11_way_77 (by decide) ?_
          exact jr_weak (hk81 (nI 1000)) ⟨rfl, trivial⟩
      · refine jr_bipush K dX11_way_67 (v := (-2)) (by decide) ?_
        exact hret _ _ _ _ _ dX11_way_69
  · refine jr_iconst K dX11_way_18 (v := (nI 0)) (by decide) ?_
    exact hret _ _ _ _ _ dX11_way_19
theorem metX11_way (hG : jG l D S0 A0) (this : Nat) (p1 : Int32) (Qj : Int32 → JP) : Met l yX11_way (ws_ yX11_way cX11_way 6 (some .int)) (jrm 21 0 0) (va_Pc [.ref this, .int p1] (jB D S0 (JX11_way this p1 Qj))) (va_Qi Qj (fun σ t => jRep D S0.heap.size σ t.heap) (jA S0)) 0 0 (jA S0) :=
  jr_start hG (by decide) (Nat.le_of_ble_eq_true rfl) rfl fun p e s m below meth c K hr hn => wX11_way K _ _ this p1 Qj (fun _ _ _ _ _ d => jr_iret K hr rfl d)
theorem wX11_cheaper (K : JK p l R s m args meth c D S0 A0 4 cX11_cheaper "MoveNotesModel" 22) (bc bs : Nat) (this : Nat) (p1 : Int32) (Qj : Int32 → JP) (hret : jRetI p l e R s m args below meth c Q D S0 4 cX11_cheaper Qj) : JR p l e R s m args below meth c Q D S0 4 bc bs (JX11_cheaper this p1 Qj) 0 [some (.ref this), some (.int p1), none, none] [] := by
  unfold JX11_cheaper
  refine jr_aload_n K dX11_cheaper_0 rfl ?_
  refine jr_iconst K dX11_cheaper_1 (v := (nI 0)) (by decide) ?_
  refine jr_put K pf_X11_3 dX11_cheaper_2 rfl rfl ?_
  refine jr_aload_n K dX11_cheaper_5 rfl ?_
  refine jr_iload_n K dX11_cheaper_6 rfl ?_
  refine jr_iconst K dX11_cheaper_7 (v := (nI 1)) (by decide) ?_
  refine jr_bipush K dX11_cheaper_8 (v := (nI 7)) (by decide) ?_
  refine jr_calli0 (jrun_S (As := [.int p1, .int (nI 1), .int (nI 7)]) (st := [.ref this]) K (metX11_in K.hG p1 (nI 1) (nI 7) _) mtX11_in q1746 q1745 rfl rfl (Nat.le_of_ble_eq_true rfl) (by decide) ⟨Nat.zero_le _, Nat.zero_le _⟩ dX11_cheaper_10) (fun v10 => ?_)
  refine jr_join (fun (k21 : Int32 → JP) => ∀ (s1_21 : Int32), JR p l e R s m args below meth c Q D S0 4 bc bs (k21 s1_21) 21 [some (.ref this), some (.int p1), none, none] [.int s1_21, .ref this]) ?_ (fun k21 hk21 => ?_)
  · intro s1_21
    refine jr_iconst K dX11_cheaper_21 (v := (nI 1)) (by decide) ?_
    refine jr_calli0 (jrun_V (As := [.int s1_21, .int (nI 1)]) (st := []) (ci := 11) K (metX11_throwsIf K.hG this s1_21 (nI 1) _) mtX11_throwsIf mvX11_throwsIf q1748 rfl rfl rfl (Nat.le_of_ble_eq_true rfl) (by decide) ⟨Nat.zero_le _, Nat.zero_le _⟩ dX11_cheaper_22) (fun v22 => ?_)
    refine jr_if_eq K (tgt := 30) dX11_cheaper_25 (by decide) ?_ ?_
    · refine jr_aload_n K dX11_cheaper_30 rfl ?_
      refine jr_calli0 (jrun_V (As := []) (st := []) (ci := 11) K (metX11_asksWhole K.hG this _) mtX11_asksWhole mvX11_asksWhole q1887 rfl rfl rfl (Nat.le_of_ble_eq_true rfl) (by decide) ⟨Nat.zero_le _, Nat.zero_le _⟩ dX11_cheaper_31) (fun v31 => ?_)
      refine jr_istore_n K (L' := [some (.ref this), some (.int p1), some (.int v31), none]) dX11_cheaper_34 (by decide) rfl rfl ?_
      refine jr_iload_n K dX11_cheaper_35 rfl ?_
      refine jr_join (fun (k51 : JP) => JR p l e R s m args below meth c Q D S0 4 bc bs k51 51 [none, none, some (.int v31), none] []) ?_ (fun k51 hk51 => ?_)
      · refine jr_iconst K dX11_cheaper_51 (v := (nI 0)) (by decide) ?_
        refine jr_iload_n K dX11_cheaper_52 rfl ?_
        refine jr_min K q1937 (by decide) (Nat.le_of_ble_eq_true rfl) dX11_cheaper_53 ?_
        exact hret _ _ _ _ _ dX11_cheaper_56
      refine jr_if_lt K (tgt := 51) dX11_cheaper_36 (by decide) ?_ ?_
      · exact jr_weak (hk51) ⟨rfl, trivial⟩
      · refine jr_aload_n K dX11_cheaper_39 rfl ?_
        refine jr_getA K gf_X11_13 dX11_cheaper_40 (fun v40 => ?_)
        refine jr_iconst K dX11_cheaper_43 (v := (nI 5)) (by decide) ?_
        refine jr_iload_n K dX11_cheaper_44 rfl ?_
        refine jr_iadd K dX11_cheaper_45 ?_
        refine jr_iald K dX11_cheaper_46 (fun v46 => ?_)
        refine jr_iconst K dX11_cheaper_47 (v := (nI 2)) (by decide) ?_
        refine jr_icmp_ge K (tgt := 57) dX11_cheaper_48 (by decide) ?_ ?_
        · refine jr_aload_n K dX11_cheaper_57 rfl ?_
          refine jr_getA K gf_X11_50 dX11_cheaper_58 (fun v58 => ?_)
          refine jr_iload_n K dX11_cheaper_61 rfl ?_
          refine jr_iconst K dX11_cheaper_62 (v := (nI 1)) (by decide) ?_
          refine jr_iast K dX11_cheaper_63 ?_
          refine jr_aload_n K dX11_cheaper_64 rfl ?_
          refine jr_calli0 (jrun_V (As := []) (st := []) (ci := 11) K (metX11_asks K.hG this _) mtX11_asks mvX11_asks q1895 rfl rfl rfl (Nat.le_of_ble_eq_true rfl) (by decide) ⟨Nat.zero_le _, Nat.zero_le _⟩ dX11_cheaper_65) (fun v65 => ?_)
          refine jr_istore_n K (L' := [some (.ref this), some (.int p1), some (.int v31), some (.int v65)]) dX11_cheaper_68 (by decide) rfl rfl ?_
          refine jr_iload_n K dX11_cheaper_69 rfl ?_
          refine jr_if_ge K (tgt := 77) dX11_cheaper_70 (by decide) ?_ ?_
          · refine jr_iload_n K dX11_cheaper_77 rfl ?_
            refine jr_iload_n K dX11_cheaper_78 rfl ?_
            refine jr_isub K dX11_cheaper_79 ?_
            exact hret _ _ _ _ _ dX11_cheaper_80
          · refine jr_iload_n K dX11_cheaper_73 rfl ?_
            refine jr_goto K (tgt := 80) dX11_cheaper_74 (by decide) ?_
            exact hret _ _ _ _ _ dX11_cheaper_80
        · exact jr_weak (hk51) ⟨rfl, trivial⟩
    · refine jr_iconst K dX11_cheaper_28 (v := (nI 0)) (by decide) ?_
      exact hret _ _ _ _ _ dX11_cheaper_29
  refine jr_if_ne K (tgt := 20) dX11_cheaper_13 (by decide) ?_ ?_
  · refine jr_iconst K dX11_cheaper_20 (v := (nI 0)) (by decide) ?_
    exact jr_weak (hk21 (nI 0)) ⟨rfl, rfl, trivial⟩
  · refine jr_iconst K dX11_cheaper_16 (v := (nI 1)) (by decide) ?_
    refine jr_goto K (tgt := 21) dX11_cheaper_17 (by decide) ?_
    exact jr_weak (hk21 (nI 1)) ⟨rfl, rfl, trivial⟩
theorem metX11_cheaper (hG : jG l D S0 A0) (this : Nat) (p1 : Int32) (Qj : Int32 → JP) : Met l yX11_cheaper (ws_ yX11_cheaper cX11_cheaper 4 (some .int)) (jrm 22 0 0) (va_Pc [.ref this, .int p1] (jB D S0 (JX11_cheaper this p1 Qj))) (va_Qi Qj (fun σ t => jRep D S0.heap.size σ t.heap) (jA S0)) 0 0 (jA S0) :=
  jr_start hG (by decide) (Nat.le_of_ble_eq_true rfl) rfl fun p e s m below meth c K hr hn => wX11_cheaper K _ _ this p1 Qj (fun _ _ _ _ _ d => jr_iret K hr rfl d)
theorem wX11_image_7 (K : JK p l R s m args meth c D S0 A0 2 cX11_image "MoveNotesModel" 12) (bc bs : Nat) (this : Nat) (k32 : JP) (hk32 : JR p l e R s m args below meth c Q D S0 2 bc bs k32 32 [some (.ref this), none] []) : ∀ (n : Nat) (x1_7 : Int32), JR p l e R s m args below meth c Q D S0 2 bc bs (jit (FX11_image_7 this k32) (fun _ => jbot) n x1_7) 7 [some (.ref this), some (.int x1_7)] [] := by
  intro n
  induction n with
  | zero =>
    intro x1_7
    exact JR.bot
  | succ n ih7 =>
    intro x1_7
    show JR p l e R s m args below meth c Q D S0 2 bc bs (FX11_image_7 this k32 (jit (FX11_image_7 this k32) (fun _ => jbot) n) x1_7) 7 [some (.ref this), some (.int x1_7)] []
    generalize jit (FX11_image_7 this k32) (fun _ => jbot) n = rec7 at ih7 ⊢
    unfold FX11_image_7
    refine jr_iload_n K dX11_image_7 rfl ?_
    refine jr_sipush K dX11_image_8 (v := (nI 1284)) (by decide) ?_
    refine jr_icmp_ge K (tgt := 32) dX11_image_11 (by decide) ?_ ?_
    · exact jr_weak (hk32) ⟨rfl, trivial⟩
    · refine jr_aload_n K dX11_image_14 rfl ?_
      refine jr_getA K gf_X11_17 dX11_image_15 (fun v15 => ?_)
      refine jr_iload_n K dX11_image_18 rfl ?_
      refine jr_aload_n K dX11_image_19 rfl ?_
      refine jr_getA K gf_X11_13 dX11_image_20 (fun v20 => ?_)
      refine jr_iload_n K dX11_image_23 rfl ?_
      refine jr_iald K dX11_image_24 (fun v24 => ?_)
      refine jr_iast K dX11_image_25 ?_
      refine jr_iinc K (v := (x1_7 + (nI 1))) (L' := [some (.ref this), some (.int (x1_7 + (nI 1)))]) dX11_image_26 rfl rfl (by decide) rfl rfl ?_
      refine jr_goto K (tgt := 7) dX11_image_29 (by decide) ?_
      exact jr_weak (ih7 (x1_7 + (nI 1))) ⟨rfl, rfl, trivial⟩
theorem wX11_image (K : JK p l R s m args meth c D S0 A0 2 cX11_image "MoveNotesModel" 12) (bc bs : Nat) (this : Nat) (Qj : JP) (hret : jRetV p l e R s m args below meth c Q D S0 2 cX11_image Qj) : JR p l e R s m args below meth c Q D S0 2 bc bs (JX11_image this Qj) 0 [some (.ref this), none] [] := by
  unfold JX11_image
  refine jr_aload_n K dX11_image_0 rfl ?_
  refine jr_iconst K dX11_image_1 (v := (nI 0)) (by decide) ?_
  refine jr_put K pf_X11_3 dX11_image_2 rfl rfl ?_
  refine jr_iconst K dX11_image_5 (v := (nI 0)) (by decide) ?_
  refine jr_istore_n K (L' := [some (.ref this), some (.int (nI 0))]) dX11_image_6 (by decide) rfl rfl ?_
  refine jr_ex (fun n7 => ?_)
  refine jr_weak (wX11_image_7 K bc bs this _ ?_ n7 (nI 0)) ⟨rfl, rfl, trivial⟩
  · refine jr_aload_n K dX11_image_32 rfl ?_
    refine jr_iconst K dX11_image_33 (v := (nI 1)) (by decide) ?_
    refine jr_putZ K pf_X11_102 dX11_image_34 ?_
    exact hret _ _ _ _ dX11_image_37
theorem metX11_image (hG : jG l D S0 A0) (this : Nat) (Qj : JP) : Met l yX11_image (ws_ yX11_image cX11_image 2 none) (jrm 12 0 0) (va_Pc [.ref this] (jB D S0 (JX11_image this Qj))) (va_Qv Qj (fun σ t => jRep D S0.heap.size σ t.heap) (jA S0)) 0 0 (jA S0) :=
  jr_start hG (by decide) (Nat.le_of_ble_eq_true rfl) rfl fun p e s m below meth c K hr hn => wX11_image K _ _ this Qj (fun _ _ _ _ d => jr_vret K hr d)
theorem wX11_back_16 (K : JK p l R s m args meth c D S0 A0 2 cX11_back "MoveNotesModel" 12) (bc bs : Nat) (this : Nat) (Qj : Int32 → JP) (hret : jRetZ p l e R s m args below meth c Q D S0 2 cX11_back Qj) : ∀ (n : Nat) (x1_16 : Int32), JR p l e R s m args below meth c Q D S0 2 bc bs (jit (FX11_back_16 this Qj) (fun _ => jbot) n x1_16) 16 [some (.ref this), some (.int x1_16)] [] := by
  intro n
  induction n with
  | zero =>
    intro x1_16
    exact JR.bot
  | succ n ih16 =>
    intro x1_16
    show JR p l e R s m args below meth c Q D S0 2 bc bs (FX11_back_16 this Qj (jit (FX11_back_16 this Qj) (fun _ => jbot) n) x1_16) 16 [some (.ref this), some (.int x1_16)] []
    generalize jit (FX11_back_16 this Qj) (fun _ => jbot) n = rec16 at ih16 ⊢
    unfold FX11_back_16
    refine jr_iload_n K dX11_back_16 rfl ?_
    refine jr_sipush K dX11_back_17 (v := (nI 1284)) (by decide) ?_
    refine jr_icmp_ge K (tgt := 41) dX11_back_20 (by decide) ?_ ?_
    · refine jr_iconst K dX11_back_41 (v := (nI 1)) (by decide) ?_
      exact JR.imp (fun _ h => ⟨Or.inr rfl, h⟩) (hret _ _ _ _ _ dX11_back_42)
    · refine jr_aload_n K dX11_back_23 rfl ?_
      refine jr_getA K gf_X11_13 dX11_back_24 (fun v24 => ?_)
      refine jr_iload_n K dX11_back_27 rfl ?_
      refine jr_aload_n K dX11_back_28 rfl ?_
      refine jr_getA K gf_X11_17 dX11_back_29 (fun v29 => ?_)
      refine jr_iload_n K dX11_back_32 rfl ?_
      refine jr_iald K dX11_back_33 (fun v33 => ?_)
      refine jr_iast K dX11_back_34 ?_
      refine jr_iinc K (v := (x1_16 + (nI 1))) (L' := [some (.ref this), some (.int (x1_16 + (nI 1)))]) dX11_back_35 rfl rfl (by decide) rfl rfl ?_
      refine jr_goto K (tgt := 16) dX11_back_38 (by decide) ?_
      exact jr_weak (ih16 (x1_16 + (nI 1))) ⟨rfl, rfl, trivial⟩
theorem wX11_back (K : JK p l R s m args meth c D S0 A0 2 cX11_back "MoveNotesModel" 12) (bc bs : Nat) (this : Nat) (Qj : Int32 → JP) (hret : jRetZ p l e R s m args below meth c Q D S0 2 cX11_back Qj) : JR p l e R s m args below meth c Q D S0 2 bc bs (JX11_back this Qj) 0 [some (.ref this), none] [] := by
  unfold JX11_back
  refine jr_aload_n K dX11_back_0 rfl ?_
  refine jr_iconst K dX11_back_1 (v := (nI 0)) (by decide) ?_
  refine jr_put K pf_X11_3 dX11_back_2 rfl rfl ?_
  refine jr_aload_n K dX11_back_5 rfl ?_
  refine jr_getI K gf_X11_102 dX11_back_6 (fun v6 => ?_)
  refine jr_if_ne K (tgt := 14) dX11_back_9 (by decide) ?_ ?_
  · refine jr_iconst K dX11_back_14 (v := (nI 0)) (by decide) ?_
    refine jr_istore_n K (L' := [some (.ref this), some (.int (nI 0))]) dX11_back_15 (by decide) rfl rfl ?_
    refine jr_ex (fun n16 => ?_)
    refine jr_weak (wX11_back_16 K bc bs this Qj hret n16 (nI 0)) ⟨rfl, rfl, trivial⟩
  · refine jr_iconst K dX11_back_12 (v := (nI 0)) (by decide) ?_
    exact JR.imp (fun _ h => ⟨Or.inl rfl, h⟩) (hret _ _ _ _ _ dX11_back_13)
theorem metX11_back (hG : jG l D S0 A0) (this : Nat) (Qj : Int32 → JP) : Met l yX11_back (ws_ yX11_back cX11_back 2 (some .boolean)) (jrm 12 0 0) (va_Pc [.ref this] (jB D S0 (JX11_back this Qj))) (va_Qi Qj (fun σ t => jRep D S0.heap.size σ t.heap) (jA S0)) 0 0 (jA S0) :=
  jr_start hG (by decide) (Nat.le_of_ble_eq_true rfl) rfl fun p e s m below meth c K hr hn => wX11_back K _ _ this Qj (fun _ _ _ _ _ d => jr_zret K hr d)
theorem wX11_count_65 (K : JK p l R s m args meth c D S0 A0 4 cX11_count "MoveNotesModel" 22) (bc bs : Nat) (this : Nat) (Qj : Int32 → JP) (hret : jRetI p l e R s m args below meth c Q D S0 4 cX11_count Qj) : ∀ (n : Nat) (x2_65 : Int32) (x3_65 : Int32), JR p l e R s m args below meth c Q D S0 4 bc bs (jit (FX11_count_65 this Qj) (fun _ _ => jbot) n x2_65 x3_65) 65 [some (.ref this), none, some (.int x2_65), some (.int x3_65)] [] := by
  intro n
  induction n with
  | zero =>
    intro x2_65 x3_65
    exact JR.bot
  | succ n ih65 =>
    intro x2_65 x3_65
    show JR p l e R s m args below meth c Q D S0 4 bc bs (FX11_count_65 this Qj (jit (FX11_count_65 this Qj) (fun _ _ => jbot) n) x2_65 x3_65) 65 [some (.ref this), none, some (.int x2_65), some (.int x3_65)] []
    generalize jit (FX11_count_65 this Qj) (fun _ _ => jbot) n = rec65 at ih65 ⊢
    unfold FX11_count_65
    refine jr_iload_n K dX11_count_65 rfl ?_
    refine jr_bipush K dX11_count_66 (v := (nI 36)) (by decide) ?_
    refine jr_icmp_ge K (tgt := 97) dX11_count_68 (by decide) ?_ ?_
    · refine jr_iload_n K dX11_count_97 rfl ?_
      exact hret _ _ _ _ _ dX11_count_98
    · refine jr_iload_n K dX11_count_71 rfl ?_
      refine jr_aload_n K dX11_count_72 rfl ?_
      refine jr_getA K gf_X11_13 dX11_count_73 (fun v73 => ?_)
      refine jr_bipush K dX11_count_76 (v := (nI 13)) (by decide) ?_
      refine jr_iload_n K dX11_count_78 rfl ?_
      refine jr_iadd K dX11_count_79 ?_
      refine jr_iald K dX11_count_80 (fun v80 => ?_)
      refine jr_join (fun (k89 : Int32 → JP) => ∀ (s1_89 : Int32), JR p l e R s m args below meth c Q D S0 4 bc bs (k89 s1_89) 89 [some (.ref this), none, none, some (.int x3_65)] [.int s1_89, .int x2_65]) ?_ (fun k89 hk89 => ?_)
      · intro s1_89
        refine jr_iadd K dX11_count_89 ?_
        refine jr_istore_n K (L' := [some (.ref this), none, some (.int (x2_65 + s1_89)), some (.int x3_65)]) dX11_count_90 (by decide) rfl rfl ?_
        refine jr_iinc K (v := (x3_65 + (nI 1))) (L' := [some (.ref this), none, some (.int (x2_65 + s1_89)), some (.int (x3_65 + (nI 1)))]) dX11_count_91 rfl rfl (by decide) rfl rfl ?_
        refine jr_goto K (tgt := 65) dX11_count_94 (by decide) ?_
        exact jr_weak (ih65 (x2_65 + s1_89) (x3_65 + (nI 1))) ⟨rfl, rfl, rfl, trivial⟩
      refine jr_if_lt K (tgt := 88) dX11_count_81 (by decide) ?_ ?_
      · refine jr_iconst K dX11_count_88 (v := (nI 0)) (by decide) ?_
        exact jr_weak (hk89 (nI 0)) ⟨rfl, rfl, trivial⟩
      · refine jr_iconst K dX11_count_84 (v := (nI 1)) (by decide) ?_
        refine jr_goto K (tgt := 89) dX11_count_85 (by decide) ?_
        exact jr_weak (hk89 (nI 1)) ⟨rfl, rfl, trivial⟩
theorem wX11_count_108 (K : JK p l R s m args meth c D S0 A0 4 cX11_count "MoveNotesModel" 22) (bc bs : Nat) (this : Nat) (Qj : Int32 → JP) (hret : jRetI p l e R s m args below meth c Q D S0 4 cX11_count Qj) : ∀ (n : Nat) (x2_108 : Int32) (x3_108 : Int32), JR p l e R s m args below meth c Q D S0 4 bc bs (jit (FX11_count_108 this Qj) (fun _ _ => jbot) n x2_108 x3_108) 108 [some (.ref this), none, some (.int x2_108), some (.int x3_108)] [] := by
  intro n
  induction n with
  | zero =>
    intro x2_108 x3_108
    exact JR.bot
  | succ n ih108 =>
    intro x2_108 x3_108
    show JR p l e R s m args below meth c Q D S0 4 bc bs (FX11_count_108 this Qj (jit (FX11_count_108 this Qj) (fun _ _ => jbot) n) x2_108 x3_108) 108 [some (.ref this), none, some (.int x2_108), some (.int x3_108)] []
    generalize jit (FX11_count_108 this Qj) (fun _ _ => jbot) n = rec108 at ih108 ⊢
    unfold FX11_count_108
    refine jr_iload_n K dX11_count_108 rfl ?_
    refine jr_aload_n K dX11_count_109 rfl ?_
    refine jr_getA K gf_X11_13 dX11_count_110 (fun v110 => ?_)
    refine jr_iconst K dX11_count_113 (v := (nI 1)) (by decide) ?_
    refine jr_iald K dX11_count_114 (fun v114 => ?_)
    refine jr_icmp_ge K (tgt := 132) dX11_count_115 (by decide) ?_ ?_
    · refine jr_iload_n K dX11_count_132 rfl ?_
      exact hret _ _ _ _ _ dX11_count_133
    · refine jr_iload_n K dX11_count_118 rfl ?_
      refine jr_aload_n K dX11_count_119 rfl ?_
      refine jr_iload_n K dX11_count_120 rfl ?_
      refine jr_calli0 (jrun_V (As := [.int x3_108]) (st := [.int x2_108]) (ci := 11) K (metX11_notes K.hG this x3_108 _) mtX11_notes mvX11_notes q1789 rfl rfl rfl (Nat.le_of_ble_eq_true rfl) (by decide) ⟨Nat.zero_le _, Nat.zero_le _⟩ dX11_count_121) (fun v121 => ?_)
      refine jr_iadd K dX11_count_124 ?_
      refine jr_istore_n K (L' := [some (.ref this), none, some (.int (x2_108 + v121)), some (.int x3_108)]) dX11_count_125 (by decide) rfl rfl ?_
      refine jr_iinc K (v := (x3_108 + (nI 1))) (L' := [some (.ref this), none, some (.int (x2_108 + v121)), some (.int (x3_108 + (nI 1)))]) dX11_count_126 rfl rfl (by decide) rfl rfl ?_
      refine jr_goto K (tgt := 108) dX11_count_129 (by decide) ?_
      exact jr_weak (ih108 (x2_108 + v121) (x3_108 + (nI 1))) ⟨rfl, rfl, rfl, trivial⟩
theorem wX11_count_172 (K : JK p l R s m args meth c D S0 A0 4 cX11_count "MoveNotesModel" 22) (bc bs : Nat) (this : Nat) (Qj : Int32 → JP) (hret : jRetI p l e R s m args below meth c Q D S0 4 cX11_count Qj) : ∀ (n : Nat) (x2_172 : Int32) (x3_172 : Int32), JR p l e R s m args below meth c Q D S0 4 bc bs (jit (FX11_count_172 this Qj) (fun _ _ => jbot) n x2_172 x3_172) 172 [some (.ref this), none, some (.int x2_172), some (.int x3_172)] [] := by
  intro n
  induction n with
  | zero =>
    intro x2_172 x3_172
    exact JR.bot
  | succ n ih172 =>
    intro x2_172 x3_172
    show JR p l e R s m args below meth c Q D S0 4 bc bs (FX11_count_172 this Qj (jit (FX11_count_172 this Qj) (fun _ _ => jbot) n) x2_172 x3_172) 172 [some (.ref this), none, some (.int x2_172), some (.int x3_172)] []
    generalize jit (FX11_count_172 this Qj) (fun _ _ => jbot) n = rec172 at ih172 ⊢
    unfold FX11_count_172
    refine jr_iload_n K dX11_count_172 rfl ?_
    refine jr_bipush K dX11_count_173 (v := (nI 36)) (by decide) ?_
    refine jr_icmp_ge K (tgt := 218) dX11_count_175 (by decide) ?_ ?_
    · refine jr_iload_n K dX11_count_218 rfl ?_
      exact hret _ _ _ _ _ dX11_count_219
    · refine jr_iload_n K dX11_count_178 rfl ?_
      refine jr_aload_n K dX11_count_179 rfl ?_
      refine jr_getA K gf_X11_13 dX11_count_180 (fun v180 => ?_)
      refine jr_bipush K dX11_count_183 (v := (nI 13)) (by decide) ?_
      refine jr_iload_n K dX11_count_185 rfl ?_
      refine jr_iadd K dX11_count_186 ?_
      refine jr_iald K dX11_count_187 (fun v187 => ?_)
      refine jr_join (fun (k210 : Int32 → JP) => ∀ (s1_210 : Int32), JR p l e R s m args below meth c Q D S0 4 bc bs (k210 s1_210) 210 [some (.ref this), none, none, some (.int x3_172)] [.int s1_210, .int x2_172]) ?_ (fun k210 hk210 => ?_)
      · intro s1_210
        refine jr_iadd K dX11_count_210 ?_
        refine jr_istore_n K (L' := [some (.ref this), none, some (.int (x2_172 + s1_210)), some (.int x3_172)]) dX11_count_211 (by decide) rfl rfl ?_
        refine jr_iinc K (v := (x3_172 + (nI 1))) (L' := [some (.ref this), none, some (.int (x2_172 + s1_210)), some (.int (x3_172 + (nI 1)))]) dX11_count_212 rfl rfl (by decide) rfl rfl ?_
        refine jr_goto K (tgt := 172) dX11_count_215 (by decide) ?_
        exact jr_weak (ih172 (x2_172 + s1_210) (x3_172 + (nI 1))) ⟨rfl, rfl, rfl, trivial⟩
      refine jr_if_lt K (tgt := 209) dX11_count_188 (by decide) ?_ ?_
      · refine jr_iconst K dX11_count_209 (v := (nI 0)) (by decide) ?_
        exact jr_weak (hk210 (nI 0)) ⟨rfl, rfl, trivial⟩
      · refine jr_aload_n K dX11_count_191 rfl ?_
        refine jr_aload_n K dX11_count_192 rfl ?_
        refine jr_getA K gf_X11_13 dX11_count_193 (fun v193 => ?_)
        refine jr_bipush K dX11_count_196 (v := (nI 13)) (by decide) ?_
        refine jr_iload_n K dX11_count_198 rfl ?_
        refine jr_iadd K dX11_count_199 ?_
        refine jr_iald K dX11_count_200 (fun v200 => ?_)
        refine jr_iconst K dX11_count_201 (v := (nI 2)) (by decide) ?_
        refine jr_idiv K dX11_count_202 (by decide) ?_
        refine jr_calli0 (jrun_V (As := [.int (v200 / (nI 2))]) (st := [.int x2_172]) (ci := 11) K (metX11_valueOf K.hG this (v200 / (nI 2)) _) mtX11_valueOf mvX11_valueOf q1947 rfl rfl rfl (Nat.le_of_ble_eq_true rfl) (by decide) ⟨Nat.zero_le _, Nat.zero_le _⟩ dX11_count_203) (fun v203 => ?_)
        refine jr_goto K (tgt := 210) dX11_count_206 (by decide) ?_
        exact jr_weak (hk210 v203) ⟨rfl, rfl, trivial⟩
theorem wX11_count (K : JK p l R s m args meth c D S0 A0 4 cX11_count "MoveNotesModel" 22) (bc bs : Nat) (this : Nat) (p1 : Int32) (Qj : Int32 → JP) (hret : jRetI p l e R s m args below meth c Q D S0 4 cX11_count Qj) : JR p l e R s m args below meth c Q D S0 4 bc bs (JX11_count this p1 Qj) 0 [some (.ref this), some (.int p1), none, none] [] := by
  unfold JX11_count
  refine jr_aload_n K dX11_count_0 rfl ?_
  refine jr_iconst K dX11_count_1 (v := (nI 0)) (by decide) ?_
  refine jr_put K pf_X11_3 dX11_count_2 rfl rfl ?_
  refine jr_iconst K dX11_count_5 (v := (nI 0)) (by decide) ?_
  refine jr_istore_n K (L' := [some (.ref this), some (.int p1), some (.int (nI 0)), none]) dX11_count_6 (by decide) rfl rfl ?_
  refine jr_iload_n K dX11_count_7 rfl ?_
  refine jr_sw (fun hsw0 => ?_) (fun hsw0 => ?_)
  · refine jr_tsIn K dX11_count_8 hsw0 (off := 48) (tgt := 56) (by decide) (by decide) rfl (by decide) ?_
    refine jr_aload_n K dX11_count_56 rfl ?_
    refine jr_getA K gf_X11_13 dX11_count_57 (fun v57 => ?_)
    refine jr_iconst K dX11_count_60 (v := (nI 0)) (by decide) ?_
    refine jr_iald K dX11_count_61 (fun v61 => ?_)
    exact hret _ _ _ _ _ dX11_count_62
  refine jr_sw (fun hsw1 => ?_) (fun hsw1 => ?_)
  · refine jr_tsIn K dX11_count_8 hsw1 (off := 55) (tgt := 63) (by decide) (by decide) rfl (by decide) ?_
    refine jr_iconst K dX11_count_63 (v := (nI 0)) (by decide) ?_
    refine jr_istore_n K (L' := [some (.ref this), some (.int p1), some (.int (nI 0)), some (.int (nI 0))]) dX11_count_64 (by decide) rfl rfl ?_
    refine jr_ex (fun n65 => ?_)
    refine jr_weak (wX11_count_65 K bc bs this Qj hret n65 (nI 0) (nI 0)) ⟨rfl, rfl, rfl, trivial⟩
  refine jr_sw (fun hsw2 => ?_) (fun hsw2 => ?_)
  · refine jr_tsIn K dX11_count_8 hsw2 (off := 91) (tgt := 99) (by decide) (by decide) rfl (by decide) ?_
    refine jr_aload_n K dX11_count_99 rfl ?_
    refine jr_getA K gf_X11_13 dX11_count_100 (fun v100 => ?_)
    refine jr_iconst K dX11_count_103 (v := (nI 1)) (by decide) ?_
    refine jr_iald K dX11_count_104 (fun v104 => ?_)
    exact hret _ _ _ _ _ dX11_count_105
  refine jr_sw (fun hsw3 => ?_) (fun hsw3 => ?_)
  · refine jr_tsIn K dX11_count_8 hsw3 (off := 98) (tgt := 106) (by decide) (by decide) rfl (by decide) ?_
    refine jr_iconst K dX11_count_106 (v := (nI 0)) (by decide) ?_
    refine jr_istore_n K (L' := [some (.ref this), some (.int p1), some (.int (nI 0)), some (.int (nI 0))]) dX11_count_107 (by decide) rfl rfl ?_
    refine jr_ex (fun n108 => ?_)
    refine jr_weak (wX11_count_108 K bc bs this Qj hret n108 (nI 0) (nI 0)) ⟨rfl, rfl, rfl, trivial⟩
  refine jr_sw (fun hsw4 => ?_) (fun hsw4 => ?_)
  · refine jr_tsIn K dX11_count_8 hsw4 (off := 126) (tgt := 134) (by decide) (by decide) rfl (by decide) ?_
    refine jr_aload_n K dX11_count_134 rfl ?_
    refine jr_getA K gf_X11_13 dX11_count_135 (fun v135 => ?_)
    refine jr_iconst K dX11_count_138 (v := (nI 2)) (by decide) ?_
    refine jr_iald K dX11_count_139 (fun v139 => ?_)
    exact hret _ _ _ _ _ dX11_count_140
  refine jr_sw (fun hsw5 => ?_) (fun hsw5 => ?_)
  · refine jr_tsIn K dX11_count_8 hsw5 (off := 133) (tgt := 141) (by decide) (by decide) rfl (by decide) ?_
    refine jr_aload_n K dX11_count_141 rfl ?_
    refine jr_getA K gf_X11_13 dX11_count_142 (fun v142 => ?_)
    refine jr_iconst K dX11_count_145 (v := (nI 3)) (by decide) ?_
    refine jr_iald K dX11_count_146 (fun v146 => ?_)
    exact hret _ _ _ _ _ dX11_count_147
  refine jr_sw (fun hsw6 => ?_) (fun hsw6 => ?_)
  · refine jr_tsIn K dX11_count_8 hsw6 (off := 140) (tgt := 148) (by decide) (by decide) rfl (by decide) ?_
    refine jr_aload_n K dX11_count_148 rfl ?_
    refine jr_calli0 (jrun_V (As := []) (st := []) (ci := 11) K (metX11_asksWhole K.hG this _) mtX11_asksWhole mvX11_asksWhole q1887 rfl rfl rfl (Nat.le_of_ble_eq_true rfl) (by decide) ⟨Nat.zero_le _, Nat.zero_le _⟩ dX11_count_149) (fun v149 => ?_)
    refine jr_pop K dX11_count_152 rfl ?_
    refine jr_aload_n K dX11_count_153 rfl ?_
    refine jr_getI K gf_X11_401 dX11_count_154 (fun v154 => ?_)
    refine jr_if_eq K (tgt := 165) dX11_count_157 (by decide) ?_ ?_
    · refine jr_aload_n K dX11_count_165 rfl ?_
      refine jr_getI K gf_X11_398 dX11_count_166 (fun v166 => ?_)
      exact hret _ _ _ _ _ dX11_count_169
    · refine jr_bipush K dX11_count_160 (v := (-2)) (by decide) ?_
      refine jr_goto K (tgt := 169) dX11_count_162 (by decide) ?_
      exact hret _ _ _ _ _ dX11_count_169
  refine jr_sw (fun hsw7 => ?_) (fun hsw7 => ?_)
  · refine jr_tsIn K dX11_count_8 hsw7 (off := 162) (tgt := 170) (by decide) (by decide) rfl (by decide) ?_
    refine jr_iconst K dX11_count_170 (v := (nI 0)) (by decide) ?_
    refine jr_istore_n K (L' := [some (.ref this), some (.int p1), some (.int (nI 0)), some (.int (nI 0))]) dX11_count_171 (by decide) rfl rfl ?_
    refine jr_ex (fun n172 => ?_)
    refine jr_weak (wX11_count_172 K bc bs this Qj hret n172 (nI 0) (nI 0)) ⟨rfl, rfl, rfl, trivial⟩
  refine jr_tsOut K dX11_count_8 (tgt := 220) (jsw_out (n := 8) [(nI 0), (nI 1), (nI 2), (nI 3), (nI 4), (nI 5), (nI 6), (nI 7)] (by decide) (by decide) (by decide) ⟨hsw0, hsw1, hsw2, hsw3, hsw4, hsw5, hsw6, hsw7, trivial⟩) (by decide) ?_
  refine jr_iconst K dX11_count_220 (v := (-1)) (by decide) ?_
  exact hret _ _ _ _ _ dX11_count_221
theorem metX11_count (hG : jG l D S0 A0) (this : Nat) (p1 : Int32) (Qj : Int32 → JP) : Met l yX11_count (ws_ yX11_count cX11_count 4 (some .int)) (jrm 22 0 0) (va_Pc [.ref this, .int p1] (jB D S0 (JX11_count this p1 Qj))) (va_Qi Qj (fun σ t => jRep D S0.heap.size σ t.heap) (jA S0)) 0 0 (jA S0) :=
  jr_start hG (by decide) (Nat.le_of_ble_eq_true rfl) rfl fun p e s m below meth c K hr hn => wX11_count K _ _ this p1 Qj (fun _ _ _ _ _ d => jr_iret K hr rfl d)
end JW
