set_option maxRecDepth 100000
theorem q129 : (Jvm.Cond.initialized "TailorRegimentModel") ∈ lw_all := lw_g (lw_at lw_m1 16 rfl) rfl
theorem q850 : (Jvm.Cond.selects "TailorRegimentModel" ({ cls := "java/lang/Object", name := "getClass", desc := "()Ljava/lang/Class;" } : Jvm.MethodName) ({ cls := "java/lang/Object", name := "getClass", desc := "()Ljava/lang/Class;" } : Jvm.MethodName)) ∈ lw_all := lw_g (lw_at lw_m4 17 rfl) rfl
theorem q1418 : (Jvm.Cond.instantiable "TailorRegimentModel" (79 : Nat)) ∈ lw_all := lw_g (lw_at lw_m6 105 rfl) rfl
theorem q1420 : (Jvm.Cond.instanceMethod ({ cls := "TailorRegimentModel", name := "<init>", desc := "()V" } : Jvm.MethodName)) ∈ lw_all := lw_g (lw_at lw_m6 107 rfl) rfl
theorem q1421 : (Jvm.Cond.code ({ cls := "TailorRegimentModel", name := "<init>", desc := "()V" } : Jvm.MethodName) prog_20_method_1_code (1 : Nat) (Option.none : Option Jvm.ClassFile.FieldType)) ∈ lw_all := lw_g (lw_at lw_m6 108 rfl) rfl
theorem q1422 : (Jvm.Cond.methodLink "TailorRegimentModel" (1 : Nat) ({ cls := "java/lang/Object", name := "<init>", desc := "()V" } : Jvm.MethodName)) ∈ lw_all := lw_g (lw_at lw_m6 109 rfl) rfl
theorem q1423 : (Jvm.Cond.fieldLink "TailorRegimentModel" (7 : Nat) "TailorRegimentModel" "tape" "[I") ∈ lw_all := lw_g (lw_at lw_m6 110 rfl) rfl
theorem q1424 : (Jvm.Cond.fieldLink "TailorRegimentModel" (139 : Nat) "TailorRegimentModel" "taped" "I") ∈ lw_all := lw_g (lw_at lw_m6 111 rfl) rfl
theorem q1425 : (Jvm.Cond.fieldLink "TailorRegimentModel" (179 : Nat) "TailorRegimentModel" "fault" "I") ∈ lw_all := lw_g (lw_at lw_m6 112 rfl) rfl
theorem q1426 : (Jvm.Cond.fieldLink "TailorRegimentModel" (13 : Nat) "TailorRegimentModel" "faultPlace" "I") ∈ lw_all := lw_g (lw_at lw_m6 113 rfl) rfl
theorem q1427 : (Jvm.Cond.fieldLink "TailorRegimentModel" (146 : Nat) "TailorRegimentModel" "at" "I") ∈ lw_all := lw_g (lw_at lw_m6 114 rfl) rfl
theorem q1428 : (Jvm.Cond.fieldLink "TailorRegimentModel" (149 : Nat) "TailorRegimentModel" "size" "I") ∈ lw_all := lw_g (lw_at lw_m6 115 rfl) rfl
theorem q1429 : (Jvm.Cond.fieldLink "TailorRegimentModel" (166 : Nat) "TailorRegimentModel" "sort" "I") ∈ lw_all := lw_g (lw_at lw_m6 116 rfl) rfl
theorem q1430 : (Jvm.Cond.fieldLink "TailorRegimentModel" (156 : Nat) "TailorRegimentModel" "place" "I") ∈ lw_all := lw_g (lw_at lw_m6 117 rfl) rfl
theorem q1431 : (Jvm.Cond.fieldLink "TailorRegimentModel" (163 : Nat) "TailorRegimentModel" "number" "I") ∈ lw_all := lw_g (lw_at lw_m6 118 rfl) rfl
theorem q1432 : (Jvm.Cond.fieldLink "TailorRegimentModel" (159 : Nat) "TailorRegimentModel" "word" "J") ∈ lw_all := lw_g (lw_at lw_m6 119 rfl) rfl
theorem q1433 : (Jvm.Cond.fieldLink "TailorRegimentModel" (17 : Nat) "TailorRegimentModel" "nName" "[J") ∈ lw_all := lw_g (lw_at lw_m6 120 rfl) rfl
theorem q1434 : (Jvm.Cond.fieldLink "TailorRegimentModel" (21 : Nat) "TailorRegimentModel" "nStep" "[I") ∈ lw_all := lw_g (lw_at lw_m6 121 rfl) rfl
theorem q1435 : (Jvm.Cond.fieldLink "TailorRegimentModel" (24 : Nat) "TailorRegimentModel" "nArg" "[I") ∈ lw_all := lw_g (lw_at lw_m6 122 rfl) rfl
theorem q1436 : (Jvm.Cond.fieldLink "TailorRegimentModel" (27 : Nat) "TailorRegimentModel" "step" "[I") ∈ lw_all := lw_g (lw_at lw_m6 123 rfl) rfl
theorem q1437 : (Jvm.Cond.fieldLink "TailorRegimentModel" (30 : Nat) "TailorRegimentModel" "arg" "[I") ∈ lw_all := lw_g (lw_at lw_m6 124 rfl) rfl
theorem q1438 : (Jvm.Cond.fieldLink "TailorRegimentModel" (33 : Nat) "TailorRegimentModel" "open" "[I") ∈ lw_all := lw_g (lw_at lw_m6 125 rfl) rfl
theorem q1439 : (Jvm.Cond.fieldLink "TailorRegimentModel" (36 : Nat) "TailorRegimentModel" "values" "[I") ∈ lw_all := lw_g (lw_at lw_m6 126 rfl) rfl
theorem q1440 : (Jvm.Cond.fieldLink "TailorRegimentModel" (253 : Nat) "TailorRegimentModel" "nMany" "I") ∈ lw_all := lw_g (lw_at lw_m6 127 rfl) rfl
theorem q1441 : (Jvm.Cond.fieldLink "TailorRegimentModel" (323 : Nat) "TailorRegimentModel" "steps" "I") ∈ lw_all := lw_g (lw_at lw_m6 128 rfl) rfl
theorem q1442 : (Jvm.Cond.fieldLink "TailorRegimentModel" (256 : Nat) "TailorRegimentModel" "opens" "I") ∈ lw_all := lw_g (lw_at lw_m6 129 rfl) rfl
theorem q1443 : (Jvm.Cond.fieldLink "TailorRegimentModel" (269 : Nat) "TailorRegimentModel" "nUnits" "I") ∈ lw_all := lw_g (lw_at lw_m6 130 rfl) rfl
theorem q1444 : (Jvm.Cond.fieldLink "TailorRegimentModel" (396 : Nat) "TailorRegimentModel" "units" "I") ∈ lw_all := lw_g (lw_at lw_m6 131 rfl) rfl
theorem q1445 : (Jvm.Cond.fieldLink "TailorRegimentModel" (272 : Nat) "TailorRegimentModel" "ownUnits" "I") ∈ lw_all := lw_g (lw_at lw_m6 132 rfl) rfl
theorem q1446 : (Jvm.Cond.fieldLink "TailorRegimentModel" (266 : Nat) "TailorRegimentModel" "deep" "I") ∈ lw_all := lw_g (lw_at lw_m6 133 rfl) rfl
theorem q1447 : (Jvm.Cond.fieldLink "TailorRegimentModel" (291 : Nat) "TailorRegimentModel" "nHasForm" "Z") ∈ lw_all := lw_g (lw_at lw_m6 134 rfl) rfl
theorem q1448 : (Jvm.Cond.fieldLink "TailorRegimentModel" (317 : Nat) "TailorRegimentModel" "hasForm" "Z") ∈ lw_all := lw_g (lw_at lw_m6 135 rfl) rfl
theorem q1449 : (Jvm.Cond.fieldLink "TailorRegimentModel" (39 : Nat) "TailorRegimentModel" "asks" "[I") ∈ lw_all := lw_g (lw_at lw_m6 136 rfl) rfl
theorem q1450 : (Jvm.Cond.fieldLink "TailorRegimentModel" (42 : Nat) "TailorRegimentModel" "nTall" "[I") ∈ lw_all := lw_g (lw_at lw_m6 137 rfl) rfl
theorem q1451 : (Jvm.Cond.fieldLink "TailorRegimentModel" (45 : Nat) "TailorRegimentModel" "nWide" "[I") ∈ lw_all := lw_g (lw_at lw_m6 138 rfl) rfl
theorem q1452 : (Jvm.Cond.fieldLink "TailorRegimentModel" (48 : Nat) "TailorRegimentModel" "nGrows" "[I") ∈ lw_all := lw_g (lw_at lw_m6 139 rfl) rfl
theorem q1453 : (Jvm.Cond.fieldLink "TailorRegimentModel" (51 : Nat) "TailorRegimentModel" "nCoatTall" "[I") ∈ lw_all := lw_g (lw_at lw_m6 140 rfl) rfl
theorem q1454 : (Jvm.Cond.fieldLink "TailorRegimentModel" (54 : Nat) "TailorRegimentModel" "nCoatWide" "[I") ∈ lw_all := lw_g (lw_at lw_m6 141 rfl) rfl
theorem q1455 : (Jvm.Cond.fieldLink "TailorRegimentModel" (57 : Nat) "TailorRegimentModel" "nSeam" "[I") ∈ lw_all := lw_g (lw_at lw_m6 142 rfl) rfl
theorem q1456 : (Jvm.Cond.fieldLink "TailorRegimentModel" (60 : Nat) "TailorRegimentModel" "nWorn" "[I") ∈ lw_all := lw_g (lw_at lw_m6 143 rfl) rfl
theorem q1457 : (Jvm.Cond.fieldLink "TailorRegimentModel" (63 : Nat) "TailorRegimentModel" "tall" "[I") ∈ lw_all := lw_g (lw_at lw_m6 144 rfl) rfl
theorem q1458 : (Jvm.Cond.fieldLink "TailorRegimentModel" (66 : Nat) "TailorRegimentModel" "wide" "[I") ∈ lw_all := lw_g (lw_at lw_m6 145 rfl) rfl
theorem q1459 : (Jvm.Cond.fieldLink "TailorRegimentModel" (69 : Nat) "TailorRegimentModel" "grows" "[I") ∈ lw_all := lw_g (lw_at lw_m6 146 rfl) rfl
theorem q1460 : (Jvm.Cond.fieldLink "TailorRegimentModel" (72 : Nat) "TailorRegimentModel" "coatTall" "[I") ∈ lw_all := lw_g (lw_at lw_m6 147 rfl) rfl
theorem q1461 : (Jvm.Cond.fieldLink "TailorRegimentModel" (75 : Nat) "TailorRegimentModel" "coatWide" "[I") ∈ lw_all := lw_g (lw_at lw_m6 148 rfl) rfl
theorem q1462 : (Jvm.Cond.fieldLink "TailorRegimentModel" (78 : Nat) "TailorRegimentModel" "seam" "[I") ∈ lw_all := lw_g (lw_at lw_m6 149 rfl) rfl
theorem q1463 : (Jvm.Cond.fieldLink "TailorRegimentModel" (81 : Nat) "TailorRegimentModel" "worn" "[I") ∈ lw_all := lw_g (lw_at lw_m6 150 rfl) rfl
theorem q1464 : (Jvm.Cond.fieldLink "TailorRegimentModel" (330 : Nat) "TailorRegimentModel" "nMen" "I") ∈ lw_all := lw_g (lw_at lw_m6 151 rfl) rfl
theorem q1465 : (Jvm.Cond.fieldLink "TailorRegimentModel" (339 : Nat) "TailorRegimentModel" "nCoats" "I") ∈ lw_all := lw_g (lw_at lw_m6 152 rfl) rfl
theorem q1466 : (Jvm.Cond.fieldLink "TailorRegimentModel" (354 : Nat) "TailorRegimentModel" "nEasy" "I") ∈ lw_all := lw_g (lw_at lw_m6 153 rfl) rfl
theorem q1467 : (Jvm.Cond.fieldLink "TailorRegimentModel" (360 : Nat) "TailorRegimentModel" "nBolt" "I") ∈ lw_all := lw_g (lw_at lw_m6 154 rfl) rfl
theorem q1468 : (Jvm.Cond.fieldLink "TailorRegimentModel" (366 : Nat) "TailorRegimentModel" "nLike" "I") ∈ lw_all := lw_g (lw_at lw_m6 155 rfl) rfl
theorem q1469 : (Jvm.Cond.fieldLink "TailorRegimentModel" (372 : Nat) "TailorRegimentModel" "nRain" "I") ∈ lw_all := lw_g (lw_at lw_m6 156 rfl) rfl
theorem q1470 : (Jvm.Cond.fieldLink "TailorRegimentModel" (378 : Nat) "TailorRegimentModel" "nDraw" "I") ∈ lw_all := lw_g (lw_at lw_m6 157 rfl) rfl
theorem q1471 : (Jvm.Cond.fieldLink "TailorRegimentModel" (387 : Nat) "TailorRegimentModel" "men" "I") ∈ lw_all := lw_g (lw_at lw_m6 158 rfl) rfl
theorem q1472 : (Jvm.Cond.fieldLink "TailorRegimentModel" (390 : Nat) "TailorRegimentModel" "coats" "I") ∈ lw_all := lw_g (lw_at lw_m6 159 rfl) rfl
theorem q1473 : (Jvm.Cond.fieldLink "TailorRegimentModel" (84 : Nat) "TailorRegimentModel" "easy" "I") ∈ lw_all := lw_g (lw_at lw_m6 160 rfl) rfl
theorem q1474 : (Jvm.Cond.fieldLink "TailorRegimentModel" (87 : Nat) "TailorRegimentModel" "bolt" "I") ∈ lw_all := lw_g (lw_at lw_m6 161 rfl) rfl
theorem q1475 : (Jvm.Cond.fieldLink "TailorRegimentModel" (90 : Nat) "TailorRegimentModel" "like" "I") ∈ lw_all := lw_g (lw_at lw_m6 162 rfl) rfl
theorem q1476 : (Jvm.Cond.fieldLink "TailorRegimentModel" (393 : Nat) "TailorRegimentModel" "rain" "I") ∈ lw_all := lw_g (lw_at lw_m6 163 rfl) rfl
theorem q1477 : (Jvm.Cond.fieldLink "TailorRegimentModel" (351 : Nat) "TailorRegimentModel" "nHasEasy" "Z") ∈ lw_all := lw_g (lw_at lw_m6 164 rfl) rfl
theorem q1478 : (Jvm.Cond.fieldLink "TailorRegimentModel" (357 : Nat) "TailorRegimentModel" "nHasBolt" "Z") ∈ lw_all := lw_g (lw_at lw_m6 165 rfl) rfl
theorem q1479 : (Jvm.Cond.fieldLink "TailorRegimentModel" (363 : Nat) "TailorRegimentModel" "nHasLike" "Z") ∈ lw_all := lw_g (lw_at lw_m6 166 rfl) rfl
theorem q1480 : (Jvm.Cond.fieldLink "TailorRegimentModel" (369 : Nat) "TailorRegimentModel" "nHasRain" "Z") ∈ lw_all := lw_g (lw_at lw_m6 167 rfl) rfl
theorem q1481 : (Jvm.Cond.fieldLink "TailorRegimentModel" (375 : Nat) "TailorRegimentModel" "nHasDraw" "Z") ∈ lw_all := lw_g (lw_at lw_m6 168 rfl) rfl
theorem q1482 : (Jvm.Cond.fieldLink "TailorRegimentModel" (93 : Nat) "TailorRegimentModel" "now" "[I") ∈ lw_all := lw_g (lw_at lw_m6 169 rfl) rfl
theorem q1483 : (Jvm.Cond.fieldLink "TailorRegimentModel" (96 : Nat) "TailorRegimentModel" "air" "[I") ∈ lw_all := lw_g (lw_at lw_m6 170 rfl) rfl
theorem q1484 : (Jvm.Cond.fieldLink "TailorRegimentModel" (99 : Nat) "TailorRegimentModel" "were" "[I") ∈ lw_all := lw_g (lw_at lw_m6 171 rfl) rfl
theorem q1485 : (Jvm.Cond.fieldLink "TailorRegimentModel" (405 : Nat) "TailorRegimentModel" "acts" "I") ∈ lw_all := lw_g (lw_at lw_m6 172 rfl) rfl
theorem q1486 : (Jvm.Cond.fieldLink "TailorRegimentModel" (408 : Nat) "TailorRegimentModel" "undone" "I") ∈ lw_all := lw_g (lw_at lw_m6 173 rfl) rfl
theorem q1487 : (Jvm.Cond.fieldLink "TailorRegimentModel" (102 : Nat) "TailorRegimentModel" "lies" "[I") ∈ lw_all := lw_g (lw_at lw_m6 174 rfl) rfl
theorem q1488 : (Jvm.Cond.fieldLink "TailorRegimentModel" (105 : Nat) "TailorRegimentModel" "row" "[I") ∈ lw_all := lw_g (lw_at lw_m6 175 rfl) rfl
theorem q1489 : (Jvm.Cond.fieldLink "TailorRegimentModel" (108 : Nat) "TailorRegimentModel" "ills" "[I") ∈ lw_all := lw_g (lw_at lw_m6 176 rfl) rfl
theorem q1490 : (Jvm.Cond.fieldLink "TailorRegimentModel" (414 : Nat) "TailorRegimentModel" "lain" "I") ∈ lw_all := lw_g (lw_at lw_m6 177 rfl) rfl
theorem q1491 : (Jvm.Cond.fieldLink "TailorRegimentModel" (111 : Nat) "TailorRegimentModel" "lengths" "[I") ∈ lw_all := lw_g (lw_at lw_m6 178 rfl) rfl
theorem q1492 : (Jvm.Cond.fieldLink "TailorRegimentModel" (114 : Nat) "TailorRegimentModel" "sightDays" "[I") ∈ lw_all := lw_g (lw_at lw_m6 179 rfl) rfl
theorem q1493 : (Jvm.Cond.fieldLink "TailorRegimentModel" (117 : Nat) "TailorRegimentModel" "sightTold" "[I") ∈ lw_all := lw_g (lw_at lw_m6 180 rfl) rfl
theorem q1494 : (Jvm.Cond.fieldLink "TailorRegimentModel" (120 : Nat) "TailorRegimentModel" "sightUntold" "[I") ∈ lw_all := lw_g (lw_at lw_m6 181 rfl) rfl
theorem q1495 : (Jvm.Cond.fieldLink "TailorRegimentModel" (123 : Nat) "TailorRegimentModel" "sightIs" "[Z") ∈ lw_all := lw_g (lw_at lw_m6 182 rfl) rfl
theorem q1496 : (Jvm.Cond.fieldLink "TailorRegimentModel" (411 : Nat) "TailorRegimentModel" "sights" "I") ∈ lw_all := lw_g (lw_at lw_m6 183 rfl) rfl
theorem q1497 : (Jvm.Cond.fieldLink "TailorRegimentModel" (527 : Nat) "TailorRegimentModel" "time" "I") ∈ lw_all := lw_g (lw_at lw_m6 184 rfl) rfl
theorem q1498 : (Jvm.Cond.fieldLink "TailorRegimentModel" (127 : Nat) "TailorRegimentModel" "was" "[Z") ∈ lw_all := lw_g (lw_at lw_m6 185 rfl) rfl
theorem q1499 : (Jvm.Cond.fieldLink "TailorRegimentModel" (130 : Nat) "TailorRegimentModel" "isFit" "[Z") ∈ lw_all := lw_g (lw_at lw_m6 186 rfl) rfl
theorem q1500 : (Jvm.Cond.fieldLink "TailorRegimentModel" (133 : Nat) "TailorRegimentModel" "hasBox" "[Z") ∈ lw_all := lw_g (lw_at lw_m6 187 rfl) rfl
theorem q1501 : (Jvm.Cond.fieldLink "TailorRegimentModel" (136 : Nat) "TailorRegimentModel" "boxes" "[I") ∈ lw_all := lw_g (lw_at lw_m6 188 rfl) rfl
theorem q1502 : (Jvm.Cond.laysFinal "TailorRegimentModel" "TailorRegimentModel" "tape" "[I") ∈ lw_all := lw_g (lw_at lw_m6 189 rfl) rfl
theorem q1503 : (Jvm.Cond.soleField "TailorRegimentModel" "tape") ∈ lw_all := lw_g (lw_at lw_m6 190 rfl) rfl
theorem q1504 : (Jvm.Cond.lays "TailorRegimentModel" "TailorRegimentModel" "taped" "I") ∈ lw_all := lw_g (lw_at lw_m6 191 rfl) rfl
theorem q1505 : (Jvm.Cond.soleField "TailorRegimentModel" "taped") ∈ lw_all := lw_g (lw_at lw_m6 192 rfl) rfl
theorem q1506 : (Jvm.Cond.lays "TailorRegimentModel" "TailorRegimentModel" "fault" "I") ∈ lw_all := lw_g (lw_at lw_m6 193 rfl) rfl
theorem q1507 : (Jvm.Cond.soleField "TailorRegimentModel" "fault") ∈ lw_all := lw_g (lw_at lw_m6 194 rfl) rfl
theorem q1508 : (Jvm.Cond.lays "TailorRegimentModel" "TailorRegimentModel" "faultPlace" "I") ∈ lw_all := lw_g (lw_at lw_m6 195 rfl) rfl
theorem q1509 : (Jvm.Cond.soleField "TailorRegimentModel" "faultPlace") ∈ lw_all := lw_g (lw_at lw_m6 196 rfl) rfl
theorem q1510 : (Jvm.Cond.lays "TailorRegimentModel" "TailorRegimentModel" "at" "I") ∈ lw_all := lw_g (lw_at lw_m6 197 rfl) rfl
theorem q1511 : (Jvm.Cond.soleField "TailorRegimentModel" "at") ∈ lw_all := lw_g (lw_at lw_m6 198 rfl) rfl
theorem q1512 : (Jvm.Cond.lays "TailorRegimentModel" "TailorRegimentModel" "size" "I") ∈ lw_all := lw_g (lw_at lw_m6 199 rfl) rfl
theorem q1513 : (Jvm.Cond.soleField "TailorRegimentModel" "size") ∈ lw_all := lw_g (lw_at lw_m6 200 rfl) rfl
theorem q1514 : (Jvm.Cond.lays "TailorRegimentModel" "TailorRegimentModel" "sort" "I") ∈ lw_all := lw_g (lw_at lw_m6 201 rfl) rfl
theorem q1515 : (Jvm.Cond.soleField "TailorRegimentModel" "sort") ∈ lw_all := lw_g (lw_at lw_m6 202 rfl) rfl
theorem q1516 : (Jvm.Cond.lays "TailorRegimentModel" "TailorRegimentModel" "place" "I") ∈ lw_all := lw_g (lw_at lw_m6 203 rfl) rfl
theorem q1517 : (Jvm.Cond.soleField "TailorRegimentModel" "place") ∈ lw_all := lw_g (lw_at lw_m6 204 rfl) rfl
theorem q1518 : (Jvm.Cond.lays "TailorRegimentModel" "TailorRegimentModel" "number" "I") ∈ lw_all := lw_g (lw_at lw_m6 205 rfl) rfl
theorem q1519 : (Jvm.Cond.soleField "TailorRegimentModel" "number") ∈ lw_all := lw_g (lw_at lw_m6 206 rfl) rfl
theorem q1520 : (Jvm.Cond.lays "TailorRegimentModel" "TailorRegimentModel" "word" "J") ∈ lw_all := lw_g (lw_at lw_m6 207 rfl) rfl
theorem q1521 : (Jvm.Cond.soleField "TailorRegimentModel" "word") ∈ lw_all := lw_g (lw_at lw_m6 208 rfl) rfl
theorem q1522 : (Jvm.Cond.laysFinal "TailorRegimentModel" "TailorRegimentModel" "nName" "[J") ∈ lw_all := lw_g (lw_at lw_m6 209 rfl) rfl
theorem q1523 : (Jvm.Cond.soleField "TailorRegimentModel" "nName") ∈ lw_all := lw_g (lw_at lw_m6 210 rfl) rfl
theorem q1524 : (Jvm.Cond.laysFinal "TailorRegimentModel" "TailorRegimentModel" "nStep" "[I") ∈ lw_all := lw_g (lw_at lw_m6 211 rfl) rfl
theorem q1525 : (Jvm.Cond.soleField "TailorRegimentModel" "nStep") ∈ lw_all := lw_g (lw_at lw_m6 212 rfl) rfl
theorem q1526 : (Jvm.Cond.laysFinal "TailorRegimentModel" "TailorRegimentModel" "nArg" "[I") ∈ lw_all := lw_g (lw_at lw_m6 213 rfl) rfl
theorem q1527 : (Jvm.Cond.soleField "TailorRegimentModel" "nArg") ∈ lw_all := lw_g (lw_at lw_m6 214 rfl) rfl
theorem q1528 : (Jvm.Cond.laysFinal "TailorRegimentModel" "TailorRegimentModel" "step" "[I") ∈ lw_all := lw_g (lw_at lw_m6 215 rfl) rfl
theorem q1529 : (Jvm.Cond.soleField "TailorRegimentModel" "step") ∈ lw_all := lw_g (lw_at lw_m6 216 rfl) rfl
theorem q1530 : (Jvm.Cond.laysFinal "TailorRegimentModel" "TailorRegimentModel" "arg" "[I") ∈ lw_all := lw_g (lw_at lw_m6 217 rfl) rfl
theorem q1531 : (Jvm.Cond.soleField "TailorRegimentModel" "arg") ∈ lw_all := lw_g (lw_at lw_m6 218 rfl) rfl
theorem q1532 : (Jvm.Cond.laysFinal "TailorRegimentModel" "TailorRegimentModel" "open" "[I") ∈ lw_all := lw_g (lw_at lw_m6 219 rfl) rfl
theorem q1533 : (Jvm.Cond.soleField "TailorRegimentModel" "open") ∈ lw_all := lw_g (lw_at lw_m6 220 rfl) rfl
theorem q1534 : (Jvm.Cond.laysFinal "TailorRegimentModel" "TailorRegimentModel" "values" "[I") ∈ lw_all := lw_g (lw_at lw_m6 221 rfl) rfl
theorem q1535 : (Jvm.Cond.soleField "TailorRegimentModel" "values") ∈ lw_all := lw_g (lw_at lw_m6 222 rfl) rfl
theorem q1536 : (Jvm.Cond.lays "TailorRegimentModel" "TailorRegimentModel" "nMany" "I") ∈ lw_all := lw_g (lw_at lw_m6 223 rfl) rfl
theorem q1537 : (Jvm.Cond.soleField "TailorRegimentModel" "nMany") ∈ lw_all := lw_g (lw_at lw_m6 224 rfl) rfl
theorem q1538 : (Jvm.Cond.lays "TailorRegimentModel" "TailorRegimentModel" "steps" "I") ∈ lw_all := lw_g (lw_at lw_m6 225 rfl) rfl
theorem q1539 : (Jvm.Cond.soleField "TailorRegimentModel" "steps") ∈ lw_all := lw_g (lw_at lw_m6 226 rfl) rfl
theorem q1540 : (Jvm.Cond.lays "TailorRegimentModel" "TailorRegimentModel" "opens" "I") ∈ lw_all := lw_g (lw_at lw_m6 227 rfl) rfl
theorem q1541 : (Jvm.Cond.soleField "TailorRegimentModel" "opens") ∈ lw_all := lw_g (lw_at lw_m6 228 rfl) rfl
theorem q1542 : (Jvm.Cond.lays "TailorRegimentModel" "TailorRegimentModel" "nUnits" "I") ∈ lw_all := lw_g (lw_at lw_m6 229 rfl) rfl
theorem q1543 : (Jvm.Cond.soleField "TailorRegimentModel" "nUnits") ∈ lw_all := lw_g (lw_at lw_m6 230 rfl) rfl
theorem q1544 : (Jvm.Cond.lays "TailorRegimentModel" "TailorRegimentModel" "units" "I") ∈ lw_all := lw_g (lw_at lw_m6 231 rfl) rfl
theorem q1545 : (Jvm.Cond.soleField "TailorRegimentModel" "units") ∈ lw_all := lw_g (lw_at lw_m6 232 rfl) rfl
theorem q1546 : (Jvm.Cond.lays "TailorRegimentModel" "TailorRegimentModel" "ownUnits" "I") ∈ lw_all := lw_g (lw_at lw_m6 233 rfl) rfl
theorem q1547 : (Jvm.Cond.soleField "TailorRegimentModel" "ownUnits") ∈ lw_all := lw_g (lw_at lw_m6 234 rfl) rfl
theorem q1548 : (Jvm.Cond.lays "TailorRegimentModel" "TailorRegimentModel" "deep" "I") ∈ lw_all := lw_g (lw_at lw_m6 235 rfl) rfl
theorem q1549 : (Jvm.Cond.soleField "TailorRegimentModel" "deep") ∈ lw_all := lw_g (lw_at lw_m6 236 rfl) rfl
theorem q1550 : (Jvm.Cond.lays "TailorRegimentModel" "TailorRegimentModel" "nHasForm" "Z") ∈ lw_all := lw_g (lw_at lw_m6 237 rfl) rfl
theorem q1551 : (Jvm.Cond.soleField "TailorRegimentModel" "nHasForm") ∈ lw_all := lw_g (lw_at lw_m6 238 rfl) rfl
theorem q1552 : (Jvm.Cond.lays "TailorRegimentModel" "TailorRegimentModel" "hasForm" "Z") ∈ lw_all := lw_g (lw_at lw_m6 239 rfl) rfl
theorem q1553 : (Jvm.Cond.soleField "TailorRegimentModel" "hasForm") ∈ lw_all := lw_g (lw_at lw_m7 0 rfl) rfl
theorem q1554 : (Jvm.Cond.laysFinal "TailorRegimentModel" "TailorRegimentModel" "asks" "[I") ∈ lw_all := lw_g (lw_at lw_m7 1 rfl) rfl
theorem q1555 : (Jvm.Cond.soleField "TailorRegimentModel" "asks") ∈ lw_all := lw_g (lw_at lw_m7 2 rfl) rfl
theorem q1556 : (Jvm.Cond.laysFinal "TailorRegimentModel" "TailorRegimentModel" "nTall" "[I") ∈ lw_all := lw_g (lw_at lw_m7 3 rfl) rfl
theorem q1557 : (Jvm.Cond.soleField "TailorRegimentModel" "nTall") ∈ lw_all := lw_g (lw_at lw_m7 4 rfl) rfl
theorem q1558 : (Jvm.Cond.laysFinal "TailorRegimentModel" "TailorRegimentModel" "nWide" "[I") ∈ lw_all := lw_g (lw_at lw_m7 5 rfl) rfl
theorem q1559 : (Jvm.Cond.soleField "TailorRegimentModel" "nWide") ∈ lw_all := lw_g (lw_at lw_m7 6 rfl) rfl
theorem q1560 : (Jvm.Cond.laysFinal "TailorRegimentModel" "TailorRegimentModel" "nGrows" "[I") ∈ lw_all := lw_g (lw_at lw_m7 7 rfl) rfl
theorem q1561 : (Jvm.Cond.soleField "TailorRegimentModel" "nGrows") ∈ lw_all := lw_g (lw_at lw_m7 8 rfl) rfl
theorem q1562 : (Jvm.Cond.laysFinal "TailorRegimentModel" "TailorRegimentModel" "nCoatTall" "[I") ∈ lw_all := lw_g (lw_at lw_m7 9 rfl) rfl
theorem q1563 : (Jvm.Cond.soleField "TailorRegimentModel" "nCoatTall") ∈ lw_all := lw_g (lw_at lw_m7 10 rfl) rfl
theorem q1564 : (Jvm.Cond.laysFinal "TailorRegimentModel" "TailorRegimentModel" "nCoatWide" "[I") ∈ lw_all := lw_g (lw_at lw_m7 11 rfl) rfl
theorem q1565 : (Jvm.Cond.soleField "TailorRegimentModel" "nCoatWide") ∈ lw_all := lw_g (lw_at lw_m7 12 rfl) rfl
theorem q1566 : (Jvm.Cond.laysFinal "TailorRegimentModel" "TailorRegimentModel" "nSeam" "[I") ∈ lw_all := lw_g (lw_at lw_m7 13 rfl) rfl
theorem q1567 : (Jvm.Cond.soleField "TailorRegimentModel" "nSeam") ∈ lw_all := lw_g (lw_at lw_m7 14 rfl) rfl
theorem q1568 : (Jvm.Cond.laysFinal "TailorRegimentModel" "TailorRegimentModel" "nWorn" "[I") ∈ lw_all := lw_g (lw_at lw_m7 15 rfl) rfl
theorem q1569 : (Jvm.Cond.soleField "TailorRegimentModel" "nWorn") ∈ lw_all := lw_g (lw_at lw_m7 16 rfl) rfl
theorem q1570 : (Jvm.Cond.laysFinal "TailorRegimentModel" "TailorRegimentModel" "tall" "[I") ∈ lw_all := lw_g (lw_at lw_m7 17 rfl) rfl
theorem q1571 : (Jvm.Cond.soleField "TailorRegimentModel" "tall") ∈ lw_all := lw_g (lw_at lw_m7 18 rfl) rfl
theorem q1572 : (Jvm.Cond.laysFinal "TailorRegimentModel" "TailorRegimentModel" "wide" "[I") ∈ lw_all := lw_g (lw_at lw_m7 19 rfl) rfl
theorem q1573 : (Jvm.Cond.soleField "TailorRegimentModel" "wide") ∈ lw_all := lw_g (lw_at lw_m7 20 rfl) rfl
theorem q1574 : (Jvm.Cond.laysFinal "TailorRegimentModel" "TailorRegimentModel" "grows" "[I") ∈ lw_all := lw_g (lw_at lw_m7 21 rfl) rfl
theorem q1575 : (Jvm.Cond.soleField "TailorRegimentModel" "grows") ∈ lw_all := lw_g (lw_at lw_m7 22 rfl) rfl
theorem q1576 : (Jvm.Cond.laysFinal "TailorRegimentModel" "TailorRegimentModel" "coatTall" "[I") ∈ lw_all := lw_g (lw_at lw_m7 23 rfl) rfl
theorem q1577 : (Jvm.Cond.soleField "TailorRegimentModel" "coatTall") ∈ lw_all := lw_g (lw_at lw_m7 24 rfl) rfl
theorem q1578 : (Jvm.Cond.laysFinal "TailorRegimentModel" "TailorRegimentModel" "coatWide" "[I") ∈ lw_all := lw_g (lw_at lw_m7 25 rfl) rfl
theorem q1579 : (Jvm.Cond.soleField "TailorRegimentModel" "coatWide") ∈ lw_all := lw_g (lw_at lw_m7 26 rfl) rfl
theorem q1580 : (Jvm.Cond.laysFinal "TailorRegimentModel" "TailorRegimentModel" "seam" "[I") ∈ lw_all := lw_g (lw_at lw_m7 27 rfl) rfl
theorem q1581 : (Jvm.Cond.soleField "TailorRegimentModel" "seam") ∈ lw_all := lw_g (lw_at lw_m7 28 rfl) rfl
theorem q1582 : (Jvm.Cond.laysFinal "TailorRegimentModel" "TailorRegimentModel" "worn" "[I") ∈ lw_all := lw_g (lw_at lw_m7 29 rfl) rfl
theorem q1583 : (Jvm.Cond.soleField "TailorRegimentModel" "worn") ∈ lw_all := lw_g (lw_at lw_m7 30 rfl) rfl
theorem q1584 : (Jvm.Cond.lays "TailorRegimentModel" "TailorRegimentModel" "nMen" "I") ∈ lw_all := lw_g (lw_at lw_m7 31 rfl) rfl
theorem q1585 : (Jvm.Cond.soleField "TailorRegimentModel" "nMen") ∈ lw_all := lw_g (lw_at lw_m7 32 rfl) rfl
theorem q1586 : (Jvm.Cond.lays "TailorRegimentModel" "TailorRegimentModel" "nCoats" "I") ∈ lw_all := lw_g (lw_at lw_m7 33 rfl) rfl
theorem q1587 : (Jvm.Cond.soleField "TailorRegimentModel" "nCoats") ∈ lw_all := lw_g (lw_at lw_m7 34 rfl) rfl
theorem q1588 : (Jvm.Cond.lays "TailorRegimentModel" "TailorRegimentModel" "nEasy" "I") ∈ lw_all := lw_g (lw_at lw_m7 35 rfl) rfl
theorem q1589 : (Jvm.Cond.soleField "TailorRegimentModel" "nEasy") ∈ lw_all := lw_g (lw_at lw_m7 36 rfl) rfl
theorem q1590 : (Jvm.Cond.lays "TailorRegimentModel" "TailorRegimentModel" "nBolt" "I") ∈ lw_all := lw_g (lw_at lw_m7 37 rfl) rfl
theorem q1591 : (Jvm.Cond.soleField "TailorRegimentModel" "nBolt") ∈ lw_all := lw_g (lw_at lw_m7 38 rfl) rfl
theorem q1592 : (Jvm.Cond.lays "TailorRegimentModel" "TailorRegimentModel" "nLike" "I") ∈ lw_all := lw_g (lw_at lw_m7 39 rfl) rfl
theorem q1593 : (Jvm.Cond.soleField "TailorRegimentModel" "nLike") ∈ lw_all := lw_g (lw_at lw_m7 40 rfl) rfl
theorem q1594 : (Jvm.Cond.lays "TailorRegimentModel" "TailorRegimentModel" "nRain" "I") ∈ lw_all := lw_g (lw_at lw_m7 41 rfl) rfl
theorem q1595 : (Jvm.Cond.soleField "TailorRegimentModel" "nRain") ∈ lw_all := lw_g (lw_at lw_m7 42 rfl) rfl
theorem q1596 : (Jvm.Cond.lays "TailorRegimentModel" "TailorRegimentModel" "nDraw" "I") ∈ lw_all := lw_g (lw_at lw_m7 43 rfl) rfl
theorem q1597 : (Jvm.Cond.soleField "TailorRegimentModel" "nDraw") ∈ lw_all := lw_g (lw_at lw_m7 44 rfl) rfl
theorem q1598 : (Jvm.Cond.lays "TailorRegimentModel" "TailorRegimentModel" "men" "I") ∈ lw_all := lw_g (lw_at lw_m7 45 rfl) rfl
theorem q1599 : (Jvm.Cond.soleField "TailorRegimentModel" "men") ∈ lw_all := lw_g (lw_at lw_m7 46 rfl) rfl
theorem q1600 : (Jvm.Cond.lays "TailorRegimentModel" "TailorRegimentModel" "coats" "I") ∈ lw_all := lw_g (lw_at lw_m7 47 rfl) rfl
theorem q1601 : (Jvm.Cond.soleField "TailorRegimentModel" "coats") ∈ lw_all := lw_g (lw_at lw_m7 48 rfl) rfl
theorem q1602 : (Jvm.Cond.lays "TailorRegimentModel" "TailorRegimentModel" "easy" "I") ∈ lw_all := lw_g (lw_at lw_m7 49 rfl) rfl
theorem q1603 : (Jvm.Cond.soleField "TailorRegimentModel" "easy") ∈ lw_all := lw_g (lw_at lw_m7 50 rfl) rfl
theorem q1604 : (Jvm.Cond.lays "TailorRegimentModel" "TailorRegimentModel" "bolt" "I") ∈ lw_all := lw_g (lw_at lw_m7 51 rfl) rfl
theorem q1605 : (Jvm.Cond.soleField "TailorRegimentModel" "bolt") ∈ lw_all := lw_g (lw_at lw_m7 52 rfl) rfl
theorem q1606 : (Jvm.Cond.lays "TailorRegimentModel" "TailorRegimentModel" "like" "I") ∈ lw_all := lw_g (lw_at lw_m7 53 rfl) rfl
theorem q1607 : (Jvm.Cond.soleField "TailorRegimentModel" "like") ∈ lw_all := lw_g (lw_at lw_m7 54 rfl) rfl
theorem q1608 : (Jvm.Cond.lays "TailorRegimentModel" "TailorRegimentModel" "rain" "I") ∈ lw_all := lw_g (lw_at lw_m7 55 rfl) rfl
theorem q1609 : (Jvm.Cond.soleField "TailorRegimentModel" "rain") ∈ lw_all := lw_g (lw_at lw_m7 56 rfl) rfl
theorem q1610 : (Jvm.Cond.lays "TailorRegimentModel" "TailorRegimentModel" "nHasEasy" "Z") ∈ lw_all := lw_g (lw_at lw_m7 57 rfl) rfl
theorem q1611 : (Jvm.Cond.soleField "TailorRegimentModel" "nHasEasy") ∈ lw_all := lw_g (lw_at lw_m7 58 rfl) rfl
theorem q1612 : (Jvm.Cond.lays "TailorRegimentModel" "TailorRegimentModel" "nHasBolt" "Z") ∈ lw_all := lw_g (lw_at lw_m7 59 rfl) rfl
theorem q1613 : (Jvm.Cond.soleField "TailorRegimentModel" "nHasBolt") ∈ lw_all := lw_g (lw_at lw_m7 60 rfl) rfl
theorem q1614 : (Jvm.Cond.lays "TailorRegimentModel" "TailorRegimentModel" "nHasLike" "Z") ∈ lw_all := lw_g (lw_at lw_m7 61 rfl) rfl
theorem q1615 : (Jvm.Cond.soleField "TailorRegimentModel" "nHasLike") ∈ lw_all := lw_g (lw_at lw_m7 62 rfl) rfl
theorem q1616 : (Jvm.Cond.lays "TailorRegimentModel" "TailorRegimentModel" "nHasRain" "Z") ∈ lw_all := lw_g (lw_at lw_m7 63 rfl) rfl
theorem q1617 : (Jvm.Cond.soleField "TailorRegimentModel" "nHasRain") ∈ lw_all := lw_g (lw_at lw_m7 64 rfl) rfl
theorem q1618 : (Jvm.Cond.lays "TailorRegimentModel" "TailorRegimentModel" "nHasDraw" "Z") ∈ lw_all := lw_g (lw_at lw_m7 65 rfl) rfl
theorem q1619 : (Jvm.Cond.soleField "TailorRegimentModel" "nHasDraw") ∈ lw_all := lw_g (lw_at lw_m7 66 rfl) rfl
theorem q1620 : (Jvm.Cond.laysFinal "TailorRegimentModel" "TailorRegimentModel" "now" "[I") ∈ lw_all := lw_g (lw_at lw_m7 67 rfl) rfl
theorem q1621 : (Jvm.Cond.soleField "TailorRegimentModel" "now") ∈ lw_all := lw_g (lw_at lw_m7 68 rfl) rfl
theorem q1622 : (Jvm.Cond.laysFinal "TailorRegimentModel" "TailorRegimentModel" "air" "[I") ∈ lw_all := lw_g (lw_at lw_m7 69 rfl) rfl
theorem q1623 : (Jvm.Cond.soleField "TailorRegimentModel" "air") ∈ lw_all := lw_g (lw_at lw_m7 70 rfl) rfl
theorem q1624 : (Jvm.Cond.laysFinal "TailorRegimentModel" "TailorRegimentModel" "were" "[I") ∈ lw_all := lw_g (lw_at lw_m7 71 rfl) rfl
theorem q1625 : (Jvm.Cond.soleField "TailorRegimentModel" "were") ∈ lw_all := lw_g (lw_at lw_m7 72 rfl) rfl
theorem q1626 : (Jvm.Cond.lays "TailorRegimentModel" "TailorRegimentModel" "acts" "I") ∈ lw_all := lw_g (lw_at lw_m7 73 rfl) rfl
theorem q1627 : (Jvm.Cond.soleField "TailorRegimentModel" "acts") ∈ lw_all := lw_g (lw_at lw_m7 74 rfl) rfl
theorem q1628 : (Jvm.Cond.lays "TailorRegimentModel" "TailorRegimentModel" "undone" "I") ∈ lw_all := lw_g (lw_at lw_m7 75 rfl) rfl
theorem q1629 : (Jvm.Cond.soleField "TailorRegimentModel" "undone") ∈ lw_all := lw_g (lw_at lw_m7 76 rfl) rfl
theorem q1630 : (Jvm.Cond.laysFinal "TailorRegimentModel" "TailorRegimentModel" "lies" "[I") ∈ lw_all := lw_g (lw_at lw_m7 77 rfl) rfl
theorem q1631 : (Jvm.Cond.soleField "TailorRegimentModel" "lies") ∈ lw_all := lw_g (lw_at lw_m7 78 rfl) rfl
theorem q1632 : (Jvm.Cond.laysFinal "TailorRegimentModel" "TailorRegimentModel" "row" "[I") ∈ lw_all := lw_g (lw_at lw_m7 79 rfl) rfl
theorem q1633 : (Jvm.Cond.soleField "TailorRegimentModel" "row") ∈ lw_all := lw_g (lw_at lw_m7 80 rfl) rfl
theorem q1634 : (Jvm.Cond.laysFinal "TailorRegimentModel" "TailorRegimentModel" "ills" "[I") ∈ lw_all := lw_g (lw_at lw_m7 81 rfl) rfl
theorem q1635 : (Jvm.Cond.soleField "TailorRegimentModel" "ills") ∈ lw_all := lw_g (lw_at lw_m7 82 rfl) rfl
theorem q1636 : (Jvm.Cond.lays "TailorRegimentModel" "TailorRegimentModel" "lain" "I") ∈ lw_all := lw_g (lw_at lw_m7 83 rfl) rfl
theorem q1637 : (Jvm.Cond.soleField "TailorRegimentModel" "lain") ∈ lw_all := lw_g (lw_at lw_m7 84 rfl) rfl
theorem q1638 : (Jvm.Cond.laysFinal "TailorRegimentModel" "TailorRegimentModel" "lengths" "[I") ∈ lw_all := lw_g (lw_at lw_m7 85 rfl) rfl
theorem q1639 : (Jvm.Cond.soleField "TailorRegimentModel" "lengths") ∈ lw_all := lw_g (lw_at lw_m7 86 rfl) rfl
theorem q1640 : (Jvm.Cond.laysFinal "TailorRegimentModel" "TailorRegimentModel" "sightDays" "[I") ∈ lw_all := lw_g (lw_at lw_m7 87 rfl) rfl
theorem q1641 : (Jvm.Cond.soleField "TailorRegimentModel" "sightDays") ∈ lw_all := lw_g (lw_at lw_m7 88 rfl) rfl
theorem q1642 : (Jvm.Cond.laysFinal "TailorRegimentModel" "TailorRegimentModel" "sightTold" "[I") ∈ lw_all := lw_g (lw_at lw_m7 89 rfl) rfl
theorem q1643 : (Jvm.Cond.soleField "TailorRegimentModel" "sightTold") ∈ lw_all := lw_g (lw_at lw_m7 90 rfl) rfl
theorem q1644 : (Jvm.Cond.laysFinal "TailorRegimentModel" "TailorRegimentModel" "sightUntold" "[I") ∈ lw_all := lw_g (lw_at lw_m7 91 rfl) rfl
theorem q1645 : (Jvm.Cond.soleField "TailorRegimentModel" "sightUntold") ∈ lw_all := lw_g (lw_at lw_m7 92 rfl) rfl
theorem q1646 : (Jvm.Cond.laysFinal "TailorRegimentModel" "TailorRegimentModel" "sightIs" "[Z") ∈ lw_all := lw_g (lw_at lw_m7 93 rfl) rfl
theorem q1647 : (Jvm.Cond.soleField "TailorRegimentModel" "sightIs") ∈ lw_all := lw_g (lw_at lw_m7 94 rfl) rfl
theorem q1648 : (Jvm.Cond.lays "TailorRegimentModel" "TailorRegimentModel" "sights" "I") ∈ lw_all := lw_g (lw_at lw_m7 95 rfl) rfl
theorem q1649 : (Jvm.Cond.soleField "TailorRegimentModel" "sights") ∈ lw_all := lw_g (lw_at lw_m7 96 rfl) rfl
theorem q1650 : (Jvm.Cond.lays "TailorRegimentModel" "TailorRegimentModel" "time" "I") ∈ lw_all := lw_g (lw_at lw_m7 97 rfl) rfl
theorem q1651 : (Jvm.Cond.soleField "TailorRegimentModel" "time") ∈ lw_all := lw_g (lw_at lw_m7 98 rfl) rfl
theorem q1652 : (Jvm.Cond.laysFinal "TailorRegimentModel" "TailorRegimentModel" "was" "[Z") ∈ lw_all := lw_g (lw_at lw_m7 99 rfl) rfl
theorem q1653 : (Jvm.Cond.soleField "TailorRegimentModel" "was") ∈ lw_all := lw_g (lw_at lw_m7 100 rfl) rfl
theorem q1654 : (Jvm.Cond.laysFinal "TailorRegimentModel" "TailorRegimentModel" "isFit" "[Z") ∈ lw_all := lw_g (lw_at lw_m7 101 rfl) rfl
theorem q1655 : (Jvm.Cond.soleField "TailorRegimentModel" "isFit") ∈ lw_all := lw_g (lw_at lw_m7 102 rfl) rfl
theorem q1656 : (Jvm.Cond.laysFinal "TailorRegimentModel" "TailorRegimentModel" "hasBox" "[Z") ∈ lw_all := lw_g (lw_at lw_m7 103 rfl) rfl
theorem q1657 : (Jvm.Cond.soleField "TailorRegimentModel" "hasBox") ∈ lw_all := lw_g (lw_at lw_m7 104 rfl) rfl
theorem q1658 : (Jvm.Cond.laysFinal "TailorRegimentModel" "TailorRegimentModel" "boxes" "[I") ∈ lw_all := lw_g (lw_at lw_m7 105 rfl) rfl
theorem q1659 : (Jvm.Cond.soleField "TailorRegimentModel" "boxes") ∈ lw_all := lw_g (lw_at lw_m7 106 rfl) rfl
theorem q1660 : (Jvm.Cond.superclass "TailorRegimentModel" "java/lang/Object") ∈ lw_all := lw_g (lw_at lw_m7 107 rfl) rfl
theorem q1663 : (Jvm.Cond.instanceMethod ({ cls := "TailorRegimentModel", name := "feed", desc := "(IIIII)I" } : Jvm.MethodName)) ∈ lw_all := lw_g (lw_at lw_m7 110 rfl) rfl
theorem q1664 : (Jvm.Cond.selects "TailorRegimentModel" ({ cls := "TailorRegimentModel", name := "feed", desc := "(IIIII)I" } : Jvm.MethodName) ({ cls := "TailorRegimentModel", name := "feed", desc := "(IIIII)I" } : Jvm.MethodName)) ∈ lw_all := lw_g (lw_at lw_m7 111 rfl) rfl
theorem q1665 : (Jvm.Cond.code ({ cls := "TailorRegimentModel", name := "feed", desc := "(IIIII)I" } : Jvm.MethodName) prog_20_method_2_code (6 : Nat) (Option.some Jvm.ClassFile.FieldType.int)) ∈ lw_all := lw_g (lw_at lw_m7 112 rfl) rfl
theorem q1666 : (Jvm.Cond.methodLink "TailorRegimentModel" (142 : Nat) ({ cls := "TailorRegimentModel", name := "four", desc := "(I)V" } : Jvm.MethodName)) ∈ lw_all := lw_g (lw_at lw_m7 113 rfl) rfl
theorem q1667 : (Jvm.Cond.privateMethod ({ cls := "TailorRegimentModel", name := "four", desc := "(I)V" } : Jvm.MethodName)) ∈ lw_tbl := lw_at lw_m7 114 rfl
theorem q1668 : (Jvm.Cond.instanceMethod ({ cls := "TailorRegimentModel", name := "four", desc := "(I)V" } : Jvm.MethodName)) ∈ lw_all := lw_g (lw_at lw_m7 115 rfl) rfl
theorem q1669 : (Jvm.Cond.code ({ cls := "TailorRegimentModel", name := "four", desc := "(I)V" } : Jvm.MethodName) prog_20_method_3_code (3 : Nat) (Option.none : Option Jvm.ClassFile.FieldType)) ∈ lw_all := lw_g (lw_at lw_m7 116 rfl) rfl
theorem q1671 : (Jvm.Cond.instanceMethod ({ cls := "TailorRegimentModel", name := "end", desc := "(I)I" } : Jvm.MethodName)) ∈ lw_all := lw_g (lw_at lw_m7 118 rfl) rfl
theorem q1672 : (Jvm.Cond.selects "TailorRegimentModel" ({ cls := "TailorRegimentModel", name := "end", desc := "(I)I" } : Jvm.MethodName) ({ cls := "TailorRegimentModel", name := "end", desc := "(I)I" } : Jvm.MethodName)) ∈ lw_all := lw_g (lw_at lw_m7 119 rfl) rfl
theorem q1673 : (Jvm.Cond.code ({ cls := "TailorRegimentModel", name := "end", desc := "(I)I" } : Jvm.MethodName) prog_20_method_4_code (2 : Nat) (Option.some Jvm.ClassFile.FieldType.int)) ∈ lw_all := lw_g (lw_at lw_m7 120 rfl) rfl
theorem q1675 : (Jvm.Cond.instanceMethod ({ cls := "TailorRegimentModel", name := "regiment", desc := "()I" } : Jvm.MethodName)) ∈ lw_all := lw_g (lw_at lw_m7 122 rfl) rfl
theorem q1676 : (Jvm.Cond.selects "TailorRegimentModel" ({ cls := "TailorRegimentModel", name := "regiment", desc := "()I" } : Jvm.MethodName) ({ cls := "TailorRegimentModel", name := "regiment", desc := "()I" } : Jvm.MethodName)) ∈ lw_all := lw_g (lw_at lw_m7 123 rfl) rfl
theorem q1677 : (Jvm.Cond.code ({ cls := "TailorRegimentModel", name := "regiment", desc := "()I" } : Jvm.MethodName) prog_20_method_44_code (2 : Nat) (Option.some Jvm.ClassFile.FieldType.int)) ∈ lw_all := lw_g (lw_at lw_m7 124 rfl) rfl
theorem q1678 : (Jvm.Cond.methodLink "TailorRegimentModel" (384 : Nat) ({ cls := "TailorRegimentModel", name := "readAll", desc := "()V" } : Jvm.MethodName)) ∈ lw_all := lw_g (lw_at lw_m7 125 rfl) rfl
theorem q1679 : (Jvm.Cond.privateMethod ({ cls := "TailorRegimentModel", name := "readAll", desc := "()V" } : Jvm.MethodName)) ∈ lw_tbl := lw_at lw_m7 126 rfl
theorem q1680 : (Jvm.Cond.instanceMethod ({ cls := "TailorRegimentModel", name := "readAll", desc := "()V" } : Jvm.MethodName)) ∈ lw_all := lw_g (lw_at lw_m7 127 rfl) rfl
theorem q1681 : (Jvm.Cond.code ({ cls := "TailorRegimentModel", name := "readAll", desc := "()V" } : Jvm.MethodName) prog_20_method_43_code (1 : Nat) (Option.none : Option Jvm.ClassFile.FieldType)) ∈ lw_all := lw_g (lw_at lw_m7 128 rfl) rfl
theorem q1682 : (Jvm.Cond.methodLink "TailorRegimentModel" (235 : Nat) ({ cls := "TailorRegimentModel", name := "token", desc := "()V" } : Jvm.MethodName)) ∈ lw_all := lw_g (lw_at lw_m7 129 rfl) rfl
theorem q1683 : (Jvm.Cond.privateMethod ({ cls := "TailorRegimentModel", name := "token", desc := "()V" } : Jvm.MethodName)) ∈ lw_tbl := lw_at lw_m7 130 rfl
theorem q1684 : (Jvm.Cond.instanceMethod ({ cls := "TailorRegimentModel", name := "token", desc := "()V" } : Jvm.MethodName)) ∈ lw_all := lw_g (lw_at lw_m7 131 rfl) rfl
theorem q1685 : (Jvm.Cond.code ({ cls := "TailorRegimentModel", name := "token", desc := "()V" } : Jvm.MethodName) prog_20_method_9_code (3 : Nat) (Option.none : Option Jvm.ClassFile.FieldType)) ∈ lw_all := lw_g (lw_at lw_m7 132 rfl) rfl
theorem q1686 : (Jvm.Cond.methodLink "TailorRegimentModel" (152 : Nat) ({ cls := "TailorRegimentModel", name := "here", desc := "(I)I" } : Jvm.MethodName)) ∈ lw_all := lw_g (lw_at lw_m7 133 rfl) rfl
theorem q1687 : (Jvm.Cond.privateMethod ({ cls := "TailorRegimentModel", name := "here", desc := "(I)I" } : Jvm.MethodName)) ∈ lw_tbl := lw_at lw_m7 134 rfl
theorem q1688 : (Jvm.Cond.instanceMethod ({ cls := "TailorRegimentModel", name := "here", desc := "(I)I" } : Jvm.MethodName)) ∈ lw_all := lw_g (lw_at lw_m7 135 rfl) rfl
theorem q1689 : (Jvm.Cond.code ({ cls := "TailorRegimentModel", name := "here", desc := "(I)I" } : Jvm.MethodName) prog_20_method_5_code (2 : Nat) (Option.some Jvm.ClassFile.FieldType.int)) ∈ lw_all := lw_g (lw_at lw_m7 136 rfl) rfl
theorem q1690 : (Jvm.Cond.methodLink "TailorRegimentModel" (169 : Nat) ({ cls := "TailorRegimentModel", name := "isLetter", desc := "(I)Z" } : Jvm.MethodName)) ∈ lw_all := lw_g (lw_at lw_m7 137 rfl) rfl
theorem q1691 : (Jvm.Cond.static ({ cls := "TailorRegimentModel", name := "isLetter", desc := "(I)Z" } : Jvm.MethodName)) ∈ lw_all := lw_g (lw_at lw_m7 138 rfl) rfl
theorem q1692 : (Jvm.Cond.code ({ cls := "TailorRegimentModel", name := "isLetter", desc := "(I)Z" } : Jvm.MethodName) prog_20_method_6_code (1 : Nat) (Option.some Jvm.ClassFile.FieldType.boolean)) ∈ lw_all := lw_g (lw_at lw_m7 139 rfl) rfl
theorem q1693 : (Jvm.Cond.methodLink "TailorRegimentModel" (173 : Nat) ({ cls := "TailorRegimentModel", name := "isDigit", desc := "(I)Z" } : Jvm.MethodName)) ∈ lw_all := lw_g (lw_at lw_m7 140 rfl) rfl
theorem q1694 : (Jvm.Cond.static ({ cls := "TailorRegimentModel", name := "isDigit", desc := "(I)Z" } : Jvm.MethodName)) ∈ lw_all := lw_g (lw_at lw_m7 141 rfl) rfl
theorem q1695 : (Jvm.Cond.code ({ cls := "TailorRegimentModel", name := "isDigit", desc := "(I)Z" } : Jvm.MethodName) prog_20_method_7_code (1 : Nat) (Option.some Jvm.ClassFile.FieldType.boolean)) ∈ lw_all := lw_g (lw_at lw_m7 142 rfl) rfl
theorem q1696 : (Jvm.Cond.methodLink "TailorRegimentModel" (176 : Nat) ({ cls := "TailorRegimentModel", name := "isSign", desc := "(I)Z" } : Jvm.MethodName)) ∈ lw_all := lw_g (lw_at lw_m7 143 rfl) rfl
theorem q1697 : (Jvm.Cond.static ({ cls := "TailorRegimentModel", name := "isSign", desc := "(I)Z" } : Jvm.MethodName)) ∈ lw_all := lw_g (lw_at lw_m7 144 rfl) rfl
theorem q1698 : (Jvm.Cond.code ({ cls := "TailorRegimentModel", name := "isSign", desc := "(I)Z" } : Jvm.MethodName) prog_20_method_8_code (1 : Nat) (Option.some Jvm.ClassFile.FieldType.boolean)) ∈ lw_all := lw_g (lw_at lw_m7 145 rfl) rfl
theorem q1699 : (Jvm.Cond.methodLink "TailorRegimentModel" (381 : Nat) ({ cls := "TailorRegimentModel", name := "readLine", desc := "()V" } : Jvm.MethodName)) ∈ lw_all := lw_g (lw_at lw_m7 146 rfl) rfl
theorem q1700 : (Jvm.Cond.privateMethod ({ cls := "TailorRegimentModel", name := "readLine", desc := "()V" } : Jvm.MethodName)) ∈ lw_tbl := lw_at lw_m7 147 rfl
theorem q1701 : (Jvm.Cond.instanceMethod ({ cls := "TailorRegimentModel", name := "readLine", desc := "()V" } : Jvm.MethodName)) ∈ lw_all := lw_g (lw_at lw_m7 148 rfl) rfl
theorem q1702 : (Jvm.Cond.code ({ cls := "TailorRegimentModel", name := "readLine", desc := "()V" } : Jvm.MethodName) prog_20_method_42_code (1 : Nat) (Option.none : Option Jvm.ClassFile.FieldType)) ∈ lw_all := lw_g (lw_at lw_m7 149 rfl) rfl
theorem q1703 : (Jvm.Cond.constantLong "TailorRegimentModel" (182 : Nat) (7168366 : Int64)) ∈ lw_all := lw_g (lw_at lw_m7 150 rfl) rfl
theorem q1704 : (Jvm.Cond.methodLink "TailorRegimentModel" (228 : Nat) ({ cls := "TailorRegimentModel", name := "isWord", desc := "(J)Z" } : Jvm.MethodName)) ∈ lw_all := lw_g (lw_at lw_m7 151 rfl) rfl
theorem q1705 : (Jvm.Cond.privateMethod ({ cls := "TailorRegimentModel", name := "isWord", desc := "(J)Z" } : Jvm.MethodName)) ∈ lw_tbl := lw_at lw_m7 152 rfl
theorem q1706 : (Jvm.Cond.instanceMethod ({ cls := "TailorRegimentModel", name := "isWord", desc := "(J)Z" } : Jvm.MethodName)) ∈ lw_all := lw_g (lw_at lw_m7 153 rfl) rfl
theorem q1707 : (Jvm.Cond.code ({ cls := "TailorRegimentModel", name := "isWord", desc := "(J)Z" } : Jvm.MethodName) prog_20_method_11_code (3 : Nat) (Option.some Jvm.ClassFile.FieldType.boolean)) ∈ lw_all := lw_g (lw_at lw_m7 154 rfl) rfl
theorem q1708 : (Jvm.Cond.methodLink "TailorRegimentModel" (342 : Nat) ({ cls := "TailorRegimentModel", name := "readMan", desc := "()V" } : Jvm.MethodName)) ∈ lw_all := lw_g (lw_at lw_m7 155 rfl) rfl
theorem q1709 : (Jvm.Cond.privateMethod ({ cls := "TailorRegimentModel", name := "readMan", desc := "()V" } : Jvm.MethodName)) ∈ lw_tbl := lw_at lw_m7 156 rfl
theorem q1710 : (Jvm.Cond.instanceMethod ({ cls := "TailorRegimentModel", name := "readMan", desc := "()V" } : Jvm.MethodName)) ∈ lw_all := lw_g (lw_at lw_m7 157 rfl) rfl
theorem q1711 : (Jvm.Cond.code ({ cls := "TailorRegimentModel", name := "readMan", desc := "()V" } : Jvm.MethodName) prog_20_method_40_code (1 : Nat) (Option.none : Option Jvm.ClassFile.FieldType)) ∈ lw_all := lw_g (lw_at lw_m7 158 rfl) rfl
theorem q1712 : (Jvm.Cond.methodLink "TailorRegimentModel" (333 : Nat) ({ cls := "TailorRegimentModel", name := "newName", desc := "(II)V" } : Jvm.MethodName)) ∈ lw_all := lw_g (lw_at lw_m7 159 rfl) rfl
theorem q1713 : (Jvm.Cond.privateMethod ({ cls := "TailorRegimentModel", name := "newName", desc := "(II)V" } : Jvm.MethodName)) ∈ lw_tbl := lw_at lw_m7 160 rfl
theorem q1714 : (Jvm.Cond.instanceMethod ({ cls := "TailorRegimentModel", name := "newName", desc := "(II)V" } : Jvm.MethodName)) ∈ lw_all := lw_g (lw_at lw_m7 161 rfl) rfl
theorem q1715 : (Jvm.Cond.code ({ cls := "TailorRegimentModel", name := "newName", desc := "(II)V" } : Jvm.MethodName) prog_20_method_18_code (4 : Nat) (Option.none : Option Jvm.ClassFile.FieldType)) ∈ lw_all := lw_g (lw_at lw_m7 162 rfl) rfl
theorem q1716 : (Jvm.Cond.methodLink "TailorRegimentModel" (250 : Nat) ({ cls := "TailorRegimentModel", name := "isName", desc := "()Z" } : Jvm.MethodName)) ∈ lw_all := lw_g (lw_at lw_m7 163 rfl) rfl
theorem q1717 : (Jvm.Cond.privateMethod ({ cls := "TailorRegimentModel", name := "isName", desc := "()Z" } : Jvm.MethodName)) ∈ lw_tbl := lw_at lw_m7 164 rfl
theorem q1718 : (Jvm.Cond.instanceMethod ({ cls := "TailorRegimentModel", name := "isName", desc := "()Z" } : Jvm.MethodName)) ∈ lw_all := lw_g (lw_at lw_m7 165 rfl) rfl
theorem q1719 : (Jvm.Cond.code ({ cls := "TailorRegimentModel", name := "isName", desc := "()Z" } : Jvm.MethodName) prog_20_method_13_code (1 : Nat) (Option.some Jvm.ClassFile.FieldType.boolean)) ∈ lw_all := lw_g (lw_at lw_m7 166 rfl) rfl
theorem q1720 : (Jvm.Cond.methodLink "TailorRegimentModel" (224 : Nat) ({ cls := "TailorRegimentModel", name := "isOwn", desc := "()Z" } : Jvm.MethodName)) ∈ lw_all := lw_g (lw_at lw_m7 167 rfl) rfl
theorem q1721 : (Jvm.Cond.privateMethod ({ cls := "TailorRegimentModel", name := "isOwn", desc := "()Z" } : Jvm.MethodName)) ∈ lw_tbl := lw_at lw_m7 168 rfl
theorem q1722 : (Jvm.Cond.instanceMethod ({ cls := "TailorRegimentModel", name := "isOwn", desc := "()Z" } : Jvm.MethodName)) ∈ lw_all := lw_g (lw_at lw_m7 169 rfl) rfl
theorem q1723 : (Jvm.Cond.code ({ cls := "TailorRegimentModel", name := "isOwn", desc := "()Z" } : Jvm.MethodName) prog_20_method_12_code (1 : Nat) (Option.some Jvm.ClassFile.FieldType.boolean)) ∈ lw_all := lw_g (lw_at lw_m7 170 rfl) rfl
theorem q1724 : (Jvm.Cond.constantLong "TailorRegimentModel" (184 : Nat) (1952541804 : Int64)) ∈ lw_all := lw_g (lw_at lw_m7 171 rfl) rfl
theorem q1725 : (Jvm.Cond.constantLong "TailorRegimentModel" (186 : Nat) (2003395685 : Int64)) ∈ lw_all := lw_g (lw_at lw_m7 172 rfl) rfl
theorem q1726 : (Jvm.Cond.constantLong "TailorRegimentModel" (188 : Nat) (444301539187 : Int64)) ∈ lw_all := lw_g (lw_at lw_m7 173 rfl) rfl
theorem q1727 : (Jvm.Cond.constantLong "TailorRegimentModel" (190 : Nat) (1668243828 : Int64)) ∈ lw_all := lw_g (lw_at lw_m7 174 rfl) rfl
theorem q1728 : (Jvm.Cond.constantLong "TailorRegimentModel" (192 : Nat) (1936023917 : Int64)) ∈ lw_all := lw_g (lw_at lw_m7 175 rfl) rfl
theorem q1729 : (Jvm.Cond.constantLong "TailorRegimentModel" (194 : Nat) (2003792494 : Int64)) ∈ lw_all := lw_g (lw_at lw_m7 176 rfl) rfl
theorem q1730 : (Jvm.Cond.constantLong "TailorRegimentModel" (196 : Nat) (6909036 : Int64)) ∈ lw_all := lw_g (lw_at lw_m7 177 rfl) rfl
theorem q1731 : (Jvm.Cond.constantLong "TailorRegimentModel" (198 : Nat) (1700885369 : Int64)) ∈ lw_all := lw_g (lw_at lw_m7 178 rfl) rfl
theorem q1732 : (Jvm.Cond.constantLong "TailorRegimentModel" (200 : Nat) (1651469428 : Int64)) ∈ lw_all := lw_g (lw_at lw_m7 179 rfl) rfl
theorem q1733 : (Jvm.Cond.constantLong "TailorRegimentModel" (202 : Nat) (1818848101 : Int64)) ∈ lw_all := lw_g (lw_at lw_m7 180 rfl) rfl
theorem q1734 : (Jvm.Cond.constantLong "TailorRegimentModel" (204 : Nat) (1918986606 : Int64)) ∈ lw_all := lw_g (lw_at lw_m7 181 rfl) rfl
theorem q1735 : (Jvm.Cond.constantLong "TailorRegimentModel" (206 : Nat) (1685217655 : Int64)) ∈ lw_all := lw_g (lw_at lw_m7 182 rfl) rfl
theorem q1736 : (Jvm.Cond.constantLong "TailorRegimentModel" (208 : Nat) (499984590964 : Int64)) ∈ lw_all := lw_g (lw_at lw_m7 183 rfl) rfl
theorem q1737 : (Jvm.Cond.constantLong "TailorRegimentModel" (210 : Nat) (465726042981 : Int64)) ∈ lw_all := lw_g (lw_at lw_m7 184 rfl) rfl
theorem q1738 : (Jvm.Cond.constantLong "TailorRegimentModel" (212 : Nat) (495673373300 : Int64)) ∈ lw_all := lw_g (lw_at lw_m7 185 rfl) rfl
theorem q1739 : (Jvm.Cond.constantLong "TailorRegimentModel" (214 : Nat) (1819242087 : Int64)) ∈ lw_all := lw_g (lw_at lw_m7 186 rfl) rfl
theorem q1740 : (Jvm.Cond.constantLong "TailorRegimentModel" (216 : Nat) (6578553 : Int64)) ∈ lw_all := lw_g (lw_at lw_m7 187 rfl) rfl
theorem q1741 : (Jvm.Cond.constantLong "TailorRegimentModel" (218 : Nat) (6385252 : Int64)) ∈ lw_all := lw_g (lw_at lw_m7 188 rfl) rfl
theorem q1742 : (Jvm.Cond.constantLong "TailorRegimentModel" (220 : Nat) (28530 : Int64)) ∈ lw_all := lw_g (lw_at lw_m7 189 rfl) rfl
theorem q1743 : (Jvm.Cond.constantLong "TailorRegimentModel" (222 : Nat) (7237492 : Int64)) ∈ lw_all := lw_g (lw_at lw_m7 190 rfl) rfl
theorem q1744 : (Jvm.Cond.methodLink "TailorRegimentModel" (232 : Nat) ({ cls := "TailorRegimentModel", name := "wrong", desc := "(I)V" } : Jvm.MethodName)) ∈ lw_all := lw_g (lw_at lw_m7 191 rfl) rfl
theorem q1745 : (Jvm.Cond.privateMethod ({ cls := "TailorRegimentModel", name := "wrong", desc := "(I)V" } : Jvm.MethodName)) ∈ lw_tbl := lw_at lw_m7 192 rfl
theorem q1746 : (Jvm.Cond.instanceMethod ({ cls := "TailorRegimentModel", name := "wrong", desc := "(I)V" } : Jvm.MethodName)) ∈ lw_all := lw_g (lw_at lw_m7 193 rfl) rfl
theorem q1747 : (Jvm.Cond.code ({ cls := "TailorRegimentModel", name := "wrong", desc := "(I)V" } : Jvm.MethodName) prog_20_method_10_code (2 : Nat) (Option.none : Option Jvm.ClassFile.FieldType)) ∈ lw_all := lw_g (lw_at lw_m7 194 rfl) rfl
theorem q1748 : (Jvm.Cond.methodLink "TailorRegimentModel" (246 : Nat) ({ cls := "TailorRegimentModel", name := "told", desc := "(JI)I" } : Jvm.MethodName)) ∈ lw_all := lw_g (lw_at lw_m7 195 rfl) rfl
theorem q1749 : (Jvm.Cond.privateMethod ({ cls := "TailorRegimentModel", name := "told", desc := "(JI)I" } : Jvm.MethodName)) ∈ lw_tbl := lw_at lw_m7 196 rfl
theorem q1750 : (Jvm.Cond.instanceMethod ({ cls := "TailorRegimentModel", name := "told", desc := "(JI)I" } : Jvm.MethodName)) ∈ lw_all := lw_g (lw_at lw_m7 197 rfl) rfl
theorem q1751 : (Jvm.Cond.code ({ cls := "TailorRegimentModel", name := "told", desc := "(JI)I" } : Jvm.MethodName) prog_20_method_16_code (4 : Nat) (Option.some Jvm.ClassFile.FieldType.int)) ∈ lw_all := lw_g (lw_at lw_m7 198 rfl) rfl
theorem q1752 : (Jvm.Cond.methodLink "TailorRegimentModel" (238 : Nat) ({ cls := "TailorRegimentModel", name := "want", desc := "(J)V" } : Jvm.MethodName)) ∈ lw_all := lw_g (lw_at lw_m7 199 rfl) rfl
theorem q1753 : (Jvm.Cond.privateMethod ({ cls := "TailorRegimentModel", name := "want", desc := "(J)V" } : Jvm.MethodName)) ∈ lw_tbl := lw_at lw_m7 200 rfl
theorem q1754 : (Jvm.Cond.instanceMethod ({ cls := "TailorRegimentModel", name := "want", desc := "(J)V" } : Jvm.MethodName)) ∈ lw_all := lw_g (lw_at lw_m7 201 rfl) rfl
theorem q1755 : (Jvm.Cond.code ({ cls := "TailorRegimentModel", name := "want", desc := "(J)V" } : Jvm.MethodName) prog_20_method_14_code (3 : Nat) (Option.none : Option Jvm.ClassFile.FieldType)) ∈ lw_all := lw_g (lw_at lw_m7 202 rfl) rfl
theorem q1756 : (Jvm.Cond.methodLink "TailorRegimentModel" (242 : Nat) ({ cls := "TailorRegimentModel", name := "toldNumber", desc := "(II)I" } : Jvm.MethodName)) ∈ lw_all := lw_g (lw_at lw_m7 203 rfl) rfl
theorem q1757 : (Jvm.Cond.privateMethod ({ cls := "TailorRegimentModel", name := "toldNumber", desc := "(II)I" } : Jvm.MethodName)) ∈ lw_tbl := lw_at lw_m7 204 rfl
theorem q1758 : (Jvm.Cond.instanceMethod ({ cls := "TailorRegimentModel", name := "toldNumber", desc := "(II)I" } : Jvm.MethodName)) ∈ lw_all := lw_g (lw_at lw_m7 205 rfl) rfl
theorem q1759 : (Jvm.Cond.code ({ cls := "TailorRegimentModel", name := "toldNumber", desc := "(II)I" } : Jvm.MethodName) prog_20_method_15_code (4 : Nat) (Option.some Jvm.ClassFile.FieldType.int)) ∈ lw_all := lw_g (lw_at lw_m7 206 rfl) rfl
theorem q1760 : (Jvm.Cond.methodLink "TailorRegimentModel" (336 : Nat) ({ cls := "TailorRegimentModel", name := "option", desc := "(JI)I" } : Jvm.MethodName)) ∈ lw_all := lw_g (lw_at lw_m7 207 rfl) rfl
theorem q1761 : (Jvm.Cond.privateMethod ({ cls := "TailorRegimentModel", name := "option", desc := "(JI)I" } : Jvm.MethodName)) ∈ lw_tbl := lw_at lw_m7 208 rfl
theorem q1762 : (Jvm.Cond.instanceMethod ({ cls := "TailorRegimentModel", name := "option", desc := "(JI)I" } : Jvm.MethodName)) ∈ lw_all := lw_g (lw_at lw_m7 209 rfl) rfl
theorem q1763 : (Jvm.Cond.code ({ cls := "TailorRegimentModel", name := "option", desc := "(JI)I" } : Jvm.MethodName) prog_20_method_17_code (4 : Nat) (Option.some Jvm.ClassFile.FieldType.int)) ∈ lw_all := lw_g (lw_at lw_m7 210 rfl) rfl
theorem q1764 : (Jvm.Cond.methodLink "TailorRegimentModel" (345 : Nat) ({ cls := "TailorRegimentModel", name := "readCoat", desc := "()V" } : Jvm.MethodName)) ∈ lw_all := lw_g (lw_at lw_m7 211 rfl) rfl
theorem q1765 : (Jvm.Cond.privateMethod ({ cls := "TailorRegimentModel", name := "readCoat", desc := "()V" } : Jvm.MethodName)) ∈ lw_tbl := lw_at lw_m7 212 rfl
theorem q1766 : (Jvm.Cond.instanceMethod ({ cls := "TailorRegimentModel", name := "readCoat", desc := "()V" } : Jvm.MethodName)) ∈ lw_all := lw_g (lw_at lw_m7 213 rfl) rfl
theorem q1767 : (Jvm.Cond.code ({ cls := "TailorRegimentModel", name := "readCoat", desc := "()V" } : Jvm.MethodName) prog_20_method_41_code (1 : Nat) (Option.none : Option Jvm.ClassFile.FieldType)) ∈ lw_all := lw_g (lw_at lw_m7 214 rfl) rfl
theorem q1768 : (Jvm.Cond.methodLink "TailorRegimentModel" (348 : Nat) ({ cls := "TailorRegimentModel", name := "formula", desc := "()V" } : Jvm.MethodName)) ∈ lw_all := lw_g (lw_at lw_m7 215 rfl) rfl
theorem q1769 : (Jvm.Cond.privateMethod ({ cls := "TailorRegimentModel", name := "formula", desc := "()V" } : Jvm.MethodName)) ∈ lw_tbl := lw_at lw_m7 216 rfl
theorem q1770 : (Jvm.Cond.instanceMethod ({ cls := "TailorRegimentModel", name := "formula", desc := "()V" } : Jvm.MethodName)) ∈ lw_all := lw_g (lw_at lw_m7 217 rfl) rfl
theorem q1771 : (Jvm.Cond.code ({ cls := "TailorRegimentModel", name := "formula", desc := "()V" } : Jvm.MethodName) prog_20_method_31_code (3 : Nat) (Option.none : Option Jvm.ClassFile.FieldType)) ∈ lw_all := lw_g (lw_at lw_m7 218 rfl) rfl
theorem q1772 : (Jvm.Cond.methodLink "TailorRegimentModel" (295 : Nat) ({ cls := "TailorRegimentModel", name := "unit", desc := "()V" } : Jvm.MethodName)) ∈ lw_all := lw_g (lw_at lw_m7 219 rfl) rfl
theorem q1773 : (Jvm.Cond.privateMethod ({ cls := "TailorRegimentModel", name := "unit", desc := "()V" } : Jvm.MethodName)) ∈ lw_tbl := lw_at lw_m7 220 rfl
theorem q1774 : (Jvm.Cond.instanceMethod ({ cls := "TailorRegimentModel", name := "unit", desc := "()V" } : Jvm.MethodName)) ∈ lw_all := lw_g (lw_at lw_m7 221 rfl) rfl
theorem q1775 : (Jvm.Cond.code ({ cls := "TailorRegimentModel", name := "unit", desc := "()V" } : Jvm.MethodName) prog_20_method_28_code (3 : Nat) (Option.none : Option Jvm.ClassFile.FieldType)) ∈ lw_all := lw_g (lw_at lw_m7 222 rfl) rfl
theorem q1776 : (Jvm.Cond.methodLink "TailorRegimentModel" (275 : Nat) ({ cls := "TailorRegimentModel", name := "mayNot", desc := "()Z" } : Jvm.MethodName)) ∈ lw_all := lw_g (lw_at lw_m7 223 rfl) rfl
theorem q1777 : (Jvm.Cond.privateMethod ({ cls := "TailorRegimentModel", name := "mayNot", desc := "()Z" } : Jvm.MethodName)) ∈ lw_tbl := lw_at lw_m7 224 rfl
theorem q1778 : (Jvm.Cond.instanceMethod ({ cls := "TailorRegimentModel", name := "mayNot", desc := "()Z" } : Jvm.MethodName)) ∈ lw_all := lw_g (lw_at lw_m7 225 rfl) rfl
theorem q1779 : (Jvm.Cond.code ({ cls := "TailorRegimentModel", name := "mayNot", desc := "()Z" } : Jvm.MethodName) prog_20_method_23_code (1 : Nat) (Option.some Jvm.ClassFile.FieldType.boolean)) ∈ lw_all := lw_g (lw_at lw_m7 226 rfl) rfl
theorem q1780 : (Jvm.Cond.methodLink "TailorRegimentModel" (259 : Nat) ({ cls := "TailorRegimentModel", name := "tight", desc := "(I)I" } : Jvm.MethodName)) ∈ lw_all := lw_g (lw_at lw_m7 227 rfl) rfl
theorem q1781 : (Jvm.Cond.static ({ cls := "TailorRegimentModel", name := "tight", desc := "(I)I" } : Jvm.MethodName)) ∈ lw_all := lw_g (lw_at lw_m7 228 rfl) rfl
theorem q1782 : (Jvm.Cond.code ({ cls := "TailorRegimentModel", name := "tight", desc := "(I)I" } : Jvm.MethodName) prog_20_method_20_code (1 : Nat) (Option.some Jvm.ClassFile.FieldType.int)) ∈ lw_all := lw_g (lw_at lw_m7 229 rfl) rfl
theorem q1783 : (Jvm.Cond.methodLink "TailorRegimentModel" (278 : Nat) ({ cls := "TailorRegimentModel", name := "openUp", desc := "(I)V" } : Jvm.MethodName)) ∈ lw_all := lw_g (lw_at lw_m7 230 rfl) rfl
theorem q1784 : (Jvm.Cond.privateMethod ({ cls := "TailorRegimentModel", name := "openUp", desc := "(I)V" } : Jvm.MethodName)) ∈ lw_tbl := lw_at lw_m7 231 rfl
theorem q1785 : (Jvm.Cond.instanceMethod ({ cls := "TailorRegimentModel", name := "openUp", desc := "(I)V" } : Jvm.MethodName)) ∈ lw_all := lw_g (lw_at lw_m7 232 rfl) rfl
theorem q1786 : (Jvm.Cond.code ({ cls := "TailorRegimentModel", name := "openUp", desc := "(I)V" } : Jvm.MethodName) prog_20_method_27_code (2 : Nat) (Option.none : Option Jvm.ClassFile.FieldType)) ∈ lw_all := lw_g (lw_at lw_m7 233 rfl) rfl
theorem q1787 : (Jvm.Cond.methodLink "TailorRegimentModel" (281 : Nat) ({ cls := "TailorRegimentModel", name := "isFull", desc := "()Z" } : Jvm.MethodName)) ∈ lw_all := lw_g (lw_at lw_m7 234 rfl) rfl
theorem q1788 : (Jvm.Cond.privateMethod ({ cls := "TailorRegimentModel", name := "isFull", desc := "()Z" } : Jvm.MethodName)) ∈ lw_tbl := lw_at lw_m7 235 rfl
theorem q1789 : (Jvm.Cond.instanceMethod ({ cls := "TailorRegimentModel", name := "isFull", desc := "()Z" } : Jvm.MethodName)) ∈ lw_all := lw_g (lw_at lw_m7 236 rfl) rfl
theorem q1790 : (Jvm.Cond.code ({ cls := "TailorRegimentModel", name := "isFull", desc := "()Z" } : Jvm.MethodName) prog_20_method_25_code (1 : Nat) (Option.some Jvm.ClassFile.FieldType.boolean)) ∈ lw_all := lw_g (lw_at lw_m7 237 rfl) rfl
theorem q1791 : (Jvm.Cond.methodLink "TailorRegimentModel" (284 : Nat) ({ cls := "TailorRegimentModel", name := "countUnit", desc := "()V" } : Jvm.MethodName)) ∈ lw_all := lw_g (lw_at lw_m7 238 rfl) rfl
theorem q1792 : (Jvm.Cond.privateMethod ({ cls := "TailorRegimentModel", name := "countUnit", desc := "()V" } : Jvm.MethodName)) ∈ lw_tbl := lw_at lw_m7 239 rfl
theorem q1793 : (Jvm.Cond.instanceMethod ({ cls := "TailorRegimentModel", name := "countUnit", desc := "()V" } : Jvm.MethodName)) ∈ lw_all := lw_g (lw_at lw_m8 0 rfl) rfl
theorem q1794 : (Jvm.Cond.code ({ cls := "TailorRegimentModel", name := "countUnit", desc := "()V" } : Jvm.MethodName) prog_20_method_26_code (1 : Nat) (Option.none : Option Jvm.ClassFile.FieldType)) ∈ lw_all := lw_g (lw_at lw_m8 1 rfl) rfl
theorem q1795 : (Jvm.Cond.methodLink "TailorRegimentModel" (287 : Nat) ({ cls := "TailorRegimentModel", name := "asked", desc := "()I" } : Jvm.MethodName)) ∈ lw_all := lw_g (lw_at lw_m8 2 rfl) rfl
theorem q1796 : (Jvm.Cond.privateMethod ({ cls := "TailorRegimentModel", name := "asked", desc := "()I" } : Jvm.MethodName)) ∈ lw_tbl := lw_at lw_m8 3 rfl
theorem q1797 : (Jvm.Cond.instanceMethod ({ cls := "TailorRegimentModel", name := "asked", desc := "()I" } : Jvm.MethodName)) ∈ lw_all := lw_g (lw_at lw_m8 4 rfl) rfl
theorem q1798 : (Jvm.Cond.code ({ cls := "TailorRegimentModel", name := "asked", desc := "()I" } : Jvm.MethodName) prog_20_method_24_code (1 : Nat) (Option.some Jvm.ClassFile.FieldType.int)) ∈ lw_all := lw_g (lw_at lw_m8 5 rfl) rfl
theorem q1799 : (Jvm.Cond.methodLink "TailorRegimentModel" (262 : Nat) ({ cls := "TailorRegimentModel", name := "add", desc := "(II)V" } : Jvm.MethodName)) ∈ lw_all := lw_g (lw_at lw_m8 6 rfl) rfl
theorem q1800 : (Jvm.Cond.privateMethod ({ cls := "TailorRegimentModel", name := "add", desc := "(II)V" } : Jvm.MethodName)) ∈ lw_tbl := lw_at lw_m8 7 rfl
theorem q1801 : (Jvm.Cond.instanceMethod ({ cls := "TailorRegimentModel", name := "add", desc := "(II)V" } : Jvm.MethodName)) ∈ lw_all := lw_g (lw_at lw_m8 8 rfl) rfl
theorem q1802 : (Jvm.Cond.code ({ cls := "TailorRegimentModel", name := "add", desc := "(II)V" } : Jvm.MethodName) prog_20_method_19_code (3 : Nat) (Option.none : Option Jvm.ClassFile.FieldType)) ∈ lw_all := lw_g (lw_at lw_m8 9 rfl) rfl
theorem q1803 : (Jvm.Cond.methodLink "TailorRegimentModel" (298 : Nat) ({ cls := "TailorRegimentModel", name := "sign", desc := "()I" } : Jvm.MethodName)) ∈ lw_all := lw_g (lw_at lw_m8 10 rfl) rfl
theorem q1804 : (Jvm.Cond.privateMethod ({ cls := "TailorRegimentModel", name := "sign", desc := "()I" } : Jvm.MethodName)) ∈ lw_tbl := lw_at lw_m8 11 rfl
theorem q1805 : (Jvm.Cond.instanceMethod ({ cls := "TailorRegimentModel", name := "sign", desc := "()I" } : Jvm.MethodName)) ∈ lw_all := lw_g (lw_at lw_m8 12 rfl) rfl
theorem q1806 : (Jvm.Cond.code ({ cls := "TailorRegimentModel", name := "sign", desc := "()I" } : Jvm.MethodName) prog_20_method_29_code (1 : Nat) (Option.some Jvm.ClassFile.FieldType.int)) ∈ lw_all := lw_g (lw_at lw_m8 13 rfl) rfl
theorem q1807 : (Jvm.Cond.methodLink "TailorRegimentModel" (301 : Nat) ({ cls := "TailorRegimentModel", name := "hasBracket", desc := "()Z" } : Jvm.MethodName)) ∈ lw_all := lw_g (lw_at lw_m8 14 rfl) rfl
theorem q1808 : (Jvm.Cond.privateMethod ({ cls := "TailorRegimentModel", name := "hasBracket", desc := "()Z" } : Jvm.MethodName)) ∈ lw_tbl := lw_at lw_m8 15 rfl
theorem q1809 : (Jvm.Cond.instanceMethod ({ cls := "TailorRegimentModel", name := "hasBracket", desc := "()Z" } : Jvm.MethodName)) ∈ lw_all := lw_g (lw_at lw_m8 16 rfl) rfl
theorem q1810 : (Jvm.Cond.code ({ cls := "TailorRegimentModel", name := "hasBracket", desc := "()Z" } : Jvm.MethodName) prog_20_method_30_code (3 : Nat) (Option.some Jvm.ClassFile.FieldType.boolean)) ∈ lw_all := lw_g (lw_at lw_m8 17 rfl) rfl
theorem q1811 : (Jvm.Cond.methodLink "TailorRegimentModel" (304 : Nat) ({ cls := "TailorRegimentModel", name := "close", desc := "(I)V" } : Jvm.MethodName)) ∈ lw_all := lw_g (lw_at lw_m8 18 rfl) rfl
theorem q1812 : (Jvm.Cond.privateMethod ({ cls := "TailorRegimentModel", name := "close", desc := "(I)V" } : Jvm.MethodName)) ∈ lw_tbl := lw_at lw_m8 19 rfl
theorem q1813 : (Jvm.Cond.instanceMethod ({ cls := "TailorRegimentModel", name := "close", desc := "(I)V" } : Jvm.MethodName)) ∈ lw_all := lw_g (lw_at lw_m8 20 rfl) rfl
theorem q1814 : (Jvm.Cond.code ({ cls := "TailorRegimentModel", name := "close", desc := "(I)V" } : Jvm.MethodName) prog_20_method_21_code (2 : Nat) (Option.none : Option Jvm.ClassFile.FieldType)) ∈ lw_all := lw_g (lw_at lw_m8 21 rfl) rfl
theorem q1815 : (Jvm.Cond.methodLink "TailorRegimentModel" (307 : Nat) ({ cls := "TailorRegimentModel", name := "hasRelation", desc := "()Z" } : Jvm.MethodName)) ∈ lw_all := lw_g (lw_at lw_m8 22 rfl) rfl
theorem q1816 : (Jvm.Cond.privateMethod ({ cls := "TailorRegimentModel", name := "hasRelation", desc := "()Z" } : Jvm.MethodName)) ∈ lw_tbl := lw_at lw_m8 23 rfl
theorem q1817 : (Jvm.Cond.instanceMethod ({ cls := "TailorRegimentModel", name := "hasRelation", desc := "()Z" } : Jvm.MethodName)) ∈ lw_all := lw_g (lw_at lw_m8 24 rfl) rfl
theorem q1818 : (Jvm.Cond.code ({ cls := "TailorRegimentModel", name := "hasRelation", desc := "()Z" } : Jvm.MethodName) prog_20_method_22_code (2 : Nat) (Option.some Jvm.ClassFile.FieldType.boolean)) ∈ lw_all := lw_g (lw_at lw_m8 25 rfl) rfl
theorem q1819 : (Jvm.Cond.methodLink "TailorRegimentModel" (399 : Nat) ({ cls := "TailorRegimentModel", name := "begin", desc := "()V" } : Jvm.MethodName)) ∈ lw_all := lw_g (lw_at lw_m8 26 rfl) rfl
theorem q1820 : (Jvm.Cond.privateMethod ({ cls := "TailorRegimentModel", name := "begin", desc := "()V" } : Jvm.MethodName)) ∈ lw_tbl := lw_at lw_m8 27 rfl
theorem q1821 : (Jvm.Cond.instanceMethod ({ cls := "TailorRegimentModel", name := "begin", desc := "()V" } : Jvm.MethodName)) ∈ lw_all := lw_g (lw_at lw_m8 28 rfl) rfl
theorem q1822 : (Jvm.Cond.code ({ cls := "TailorRegimentModel", name := "begin", desc := "()V" } : Jvm.MethodName) prog_20_method_52_code (2 : Nat) (Option.none : Option Jvm.ClassFile.FieldType)) ∈ lw_all := lw_g (lw_at lw_m8 29 rfl) rfl
theorem q1823 : (Jvm.Cond.methodLink "TailorRegimentModel" (402 : Nat) ({ cls := "TailorRegimentModel", name := "keepAir", desc := "()V" } : Jvm.MethodName)) ∈ lw_all := lw_g (lw_at lw_m8 30 rfl) rfl
theorem q1824 : (Jvm.Cond.privateMethod ({ cls := "TailorRegimentModel", name := "keepAir", desc := "()V" } : Jvm.MethodName)) ∈ lw_tbl := lw_at lw_m8 31 rfl
theorem q1825 : (Jvm.Cond.instanceMethod ({ cls := "TailorRegimentModel", name := "keepAir", desc := "()V" } : Jvm.MethodName)) ∈ lw_all := lw_g (lw_at lw_m8 32 rfl) rfl
theorem q1826 : (Jvm.Cond.code ({ cls := "TailorRegimentModel", name := "keepAir", desc := "()V" } : Jvm.MethodName) prog_20_method_51_code (2 : Nat) (Option.none : Option Jvm.ClassFile.FieldType)) ∈ lw_all := lw_g (lw_at lw_m8 33 rfl) rfl
theorem q1828 : (Jvm.Cond.instanceMethod ({ cls := "TailorRegimentModel", name := "fault", desc := "(I)I" } : Jvm.MethodName)) ∈ lw_all := lw_g (lw_at lw_m8 35 rfl) rfl
theorem q1829 : (Jvm.Cond.selects "TailorRegimentModel" ({ cls := "TailorRegimentModel", name := "fault", desc := "(I)I" } : Jvm.MethodName) ({ cls := "TailorRegimentModel", name := "fault", desc := "(I)I" } : Jvm.MethodName)) ∈ lw_all := lw_g (lw_at lw_m8 36 rfl) rfl
theorem q1830 : (Jvm.Cond.code ({ cls := "TailorRegimentModel", name := "fault", desc := "(I)I" } : Jvm.MethodName) prog_20_method_45_code (2 : Nat) (Option.some Jvm.ClassFile.FieldType.int)) ∈ lw_all := lw_g (lw_at lw_m8 37 rfl) rfl
theorem q1832 : (Jvm.Cond.instanceMethod ({ cls := "TailorRegimentModel", name := "man", desc := "(II)I" } : Jvm.MethodName)) ∈ lw_all := lw_g (lw_at lw_m8 39 rfl) rfl
theorem q1833 : (Jvm.Cond.selects "TailorRegimentModel" ({ cls := "TailorRegimentModel", name := "man", desc := "(II)I" } : Jvm.MethodName) ({ cls := "TailorRegimentModel", name := "man", desc := "(II)I" } : Jvm.MethodName)) ∈ lw_all := lw_g (lw_at lw_m8 40 rfl) rfl
theorem q1834 : (Jvm.Cond.code ({ cls := "TailorRegimentModel", name := "man", desc := "(II)I" } : Jvm.MethodName) prog_20_method_61_code (3 : Nat) (Option.some Jvm.ClassFile.FieldType.int)) ∈ lw_all := lw_g (lw_at lw_m8 41 rfl) rfl
theorem q1835 : (Jvm.Cond.methodLink "TailorRegimentModel" (446 : Nat) ({ cls := "TailorRegimentModel", name := "isMan", desc := "(I)Z" } : Jvm.MethodName)) ∈ lw_all := lw_g (lw_at lw_m8 42 rfl) rfl
theorem q1836 : (Jvm.Cond.privateMethod ({ cls := "TailorRegimentModel", name := "isMan", desc := "(I)Z" } : Jvm.MethodName)) ∈ lw_tbl := lw_at lw_m8 43 rfl
theorem q1837 : (Jvm.Cond.instanceMethod ({ cls := "TailorRegimentModel", name := "isMan", desc := "(I)Z" } : Jvm.MethodName)) ∈ lw_all := lw_g (lw_at lw_m8 44 rfl) rfl
theorem q1838 : (Jvm.Cond.code ({ cls := "TailorRegimentModel", name := "isMan", desc := "(I)Z" } : Jvm.MethodName) prog_20_method_47_code (2 : Nat) (Option.some Jvm.ClassFile.FieldType.boolean)) ∈ lw_all := lw_g (lw_at lw_m8 45 rfl) rfl
theorem q1839 : (Jvm.Cond.methodLink "TailorRegimentModel" (417 : Nat) ({ cls := "TailorRegimentModel", name := "isIn", desc := "(III)Z" } : Jvm.MethodName)) ∈ lw_all := lw_g (lw_at lw_m8 46 rfl) rfl
theorem q1840 : (Jvm.Cond.static ({ cls := "TailorRegimentModel", name := "isIn", desc := "(III)Z" } : Jvm.MethodName)) ∈ lw_all := lw_g (lw_at lw_m8 47 rfl) rfl
theorem q1841 : (Jvm.Cond.code ({ cls := "TailorRegimentModel", name := "isIn", desc := "(III)Z" } : Jvm.MethodName) prog_20_method_46_code (3 : Nat) (Option.some Jvm.ClassFile.FieldType.boolean)) ∈ lw_all := lw_g (lw_at lw_m8 48 rfl) rfl
theorem q1842 : (Jvm.Cond.methodLink "TailorRegimentModel" (449 : Nat) ({ cls := "TailorRegimentModel", name := "fill", desc := "()V" } : Jvm.MethodName)) ∈ lw_all := lw_g (lw_at lw_m8 49 rfl) rfl
theorem q1843 : (Jvm.Cond.privateMethod ({ cls := "TailorRegimentModel", name := "fill", desc := "()V" } : Jvm.MethodName)) ∈ lw_tbl := lw_at lw_m8 50 rfl
theorem q1844 : (Jvm.Cond.instanceMethod ({ cls := "TailorRegimentModel", name := "fill", desc := "()V" } : Jvm.MethodName)) ∈ lw_all := lw_g (lw_at lw_m8 51 rfl) rfl
theorem q1845 : (Jvm.Cond.code ({ cls := "TailorRegimentModel", name := "fill", desc := "()V" } : Jvm.MethodName) prog_20_method_50_code (2 : Nat) (Option.none : Option Jvm.ClassFile.FieldType)) ∈ lw_all := lw_g (lw_at lw_m8 52 rfl) rfl
theorem q1846 : (Jvm.Cond.methodLink "TailorRegimentModel" (452 : Nat) ({ cls := "TailorRegimentModel", name := "coatsFor", desc := "(I)I" } : Jvm.MethodName)) ∈ lw_all := lw_g (lw_at lw_m8 53 rfl) rfl
theorem q1847 : (Jvm.Cond.privateMethod ({ cls := "TailorRegimentModel", name := "coatsFor", desc := "(I)I" } : Jvm.MethodName)) ∈ lw_tbl := lw_at lw_m8 54 rfl
theorem q1848 : (Jvm.Cond.instanceMethod ({ cls := "TailorRegimentModel", name := "coatsFor", desc := "(I)I" } : Jvm.MethodName)) ∈ lw_all := lw_g (lw_at lw_m8 55 rfl) rfl
theorem q1849 : (Jvm.Cond.code ({ cls := "TailorRegimentModel", name := "coatsFor", desc := "(I)I" } : Jvm.MethodName) prog_20_method_60_code (4 : Nat) (Option.some Jvm.ClassFile.FieldType.int)) ∈ lw_all := lw_g (lw_at lw_m8 56 rfl) rfl
theorem q1850 : (Jvm.Cond.methodLink "TailorRegimentModel" (424 : Nat) ({ cls := "TailorRegimentModel", name := "fits", desc := "(II)Z" } : Jvm.MethodName)) ∈ lw_all := lw_g (lw_at lw_m8 57 rfl) rfl
theorem q1851 : (Jvm.Cond.privateMethod ({ cls := "TailorRegimentModel", name := "fits", desc := "(II)Z" } : Jvm.MethodName)) ∈ lw_tbl := lw_at lw_m8 58 rfl
theorem q1852 : (Jvm.Cond.instanceMethod ({ cls := "TailorRegimentModel", name := "fits", desc := "(II)Z" } : Jvm.MethodName)) ∈ lw_all := lw_g (lw_at lw_m8 59 rfl) rfl
theorem q1853 : (Jvm.Cond.code ({ cls := "TailorRegimentModel", name := "fits", desc := "(II)Z" } : Jvm.MethodName) prog_20_method_54_code (3 : Nat) (Option.some Jvm.ClassFile.FieldType.boolean)) ∈ lw_all := lw_g (lw_at lw_m8 60 rfl) rfl
theorem q1854 : (Jvm.Cond.methodLink "TailorRegimentModel" (421 : Nat) ({ cls := "TailorRegimentModel", name := "misfitOf", desc := "(II)I" } : Jvm.MethodName)) ∈ lw_all := lw_g (lw_at lw_m8 61 rfl) rfl
theorem q1855 : (Jvm.Cond.privateMethod ({ cls := "TailorRegimentModel", name := "misfitOf", desc := "(II)I" } : Jvm.MethodName)) ∈ lw_tbl := lw_at lw_m8 62 rfl
theorem q1856 : (Jvm.Cond.instanceMethod ({ cls := "TailorRegimentModel", name := "misfitOf", desc := "(II)I" } : Jvm.MethodName)) ∈ lw_all := lw_g (lw_at lw_m8 63 rfl) rfl
theorem q1857 : (Jvm.Cond.code ({ cls := "TailorRegimentModel", name := "misfitOf", desc := "(II)I" } : Jvm.MethodName) prog_20_method_39_code (5 : Nat) (Option.some Jvm.ClassFile.FieldType.int)) ∈ lw_all := lw_g (lw_at lw_m8 64 rfl) rfl
theorem q1858 : (Jvm.Cond.methodLink "TailorRegimentModel" (314 : Nat) ({ cls := "TailorRegimentModel", name := "over", desc := "(II)I" } : Jvm.MethodName)) ∈ lw_all := lw_g (lw_at lw_m8 65 rfl) rfl
theorem q1859 : (Jvm.Cond.static ({ cls := "TailorRegimentModel", name := "over", desc := "(II)I" } : Jvm.MethodName)) ∈ lw_all := lw_g (lw_at lw_m8 66 rfl) rfl
theorem q1860 : (Jvm.Cond.code ({ cls := "TailorRegimentModel", name := "over", desc := "(II)I" } : Jvm.MethodName) prog_20_method_38_code (2 : Nat) (Option.some Jvm.ClassFile.FieldType.int)) ∈ lw_all := lw_g (lw_at lw_m8 67 rfl) rfl
theorem q1861 : (Jvm.Cond.methodLink "TailorRegimentModel" (320 : Nat) ({ cls := "TailorRegimentModel", name := "within", desc := "(II)I" } : Jvm.MethodName)) ∈ lw_all := lw_g (lw_at lw_m8 68 rfl) rfl
theorem q1862 : (Jvm.Cond.static ({ cls := "TailorRegimentModel", name := "within", desc := "(II)I" } : Jvm.MethodName)) ∈ lw_all := lw_g (lw_at lw_m8 69 rfl) rfl
theorem q1863 : (Jvm.Cond.code ({ cls := "TailorRegimentModel", name := "within", desc := "(II)I" } : Jvm.MethodName) prog_20_method_34_code (2 : Nat) (Option.some Jvm.ClassFile.FieldType.int)) ∈ lw_all := lw_g (lw_at lw_m8 70 rfl) rfl
theorem q1864 : (Jvm.Cond.methodLink "TailorRegimentModel" (310 : Nat) ({ cls := "TailorRegimentModel", name := "truth", desc := "(Z)I" } : Jvm.MethodName)) ∈ lw_all := lw_g (lw_at lw_m8 71 rfl) rfl
theorem q1865 : (Jvm.Cond.static ({ cls := "TailorRegimentModel", name := "truth", desc := "(Z)I" } : Jvm.MethodName)) ∈ lw_all := lw_g (lw_at lw_m8 72 rfl) rfl
theorem q1866 : (Jvm.Cond.code ({ cls := "TailorRegimentModel", name := "truth", desc := "(Z)I" } : Jvm.MethodName) prog_20_method_32_code (1 : Nat) (Option.some Jvm.ClassFile.FieldType.int)) ∈ lw_all := lw_g (lw_at lw_m8 73 rfl) rfl
theorem q1867 : (Jvm.Cond.methodLink "TailorRegimentModel" (326 : Nat) ({ cls := "TailorRegimentModel", name := "done", desc := "(III)I" } : Jvm.MethodName)) ∈ lw_all := lw_g (lw_at lw_m8 74 rfl) rfl
theorem q1868 : (Jvm.Cond.static ({ cls := "TailorRegimentModel", name := "done", desc := "(III)I" } : Jvm.MethodName)) ∈ lw_all := lw_g (lw_at lw_m8 75 rfl) rfl
theorem q1869 : (Jvm.Cond.code ({ cls := "TailorRegimentModel", name := "done", desc := "(III)I" } : Jvm.MethodName) prog_20_method_33_code (3 : Nat) (Option.some Jvm.ClassFile.FieldType.int)) ∈ lw_all := lw_g (lw_at lw_m8 76 rfl) rfl
theorem q1871 : (Jvm.Cond.instanceMethod ({ cls := "TailorRegimentModel", name := "coat", desc := "(II)I" } : Jvm.MethodName)) ∈ lw_all := lw_g (lw_at lw_m8 78 rfl) rfl
theorem q1872 : (Jvm.Cond.selects "TailorRegimentModel" ({ cls := "TailorRegimentModel", name := "coat", desc := "(II)I" } : Jvm.MethodName) ({ cls := "TailorRegimentModel", name := "coat", desc := "(II)I" } : Jvm.MethodName)) ∈ lw_all := lw_g (lw_at lw_m8 79 rfl) rfl
theorem q1873 : (Jvm.Cond.code ({ cls := "TailorRegimentModel", name := "coat", desc := "(II)I" } : Jvm.MethodName) prog_20_method_62_code (3 : Nat) (Option.some Jvm.ClassFile.FieldType.int)) ∈ lw_all := lw_g (lw_at lw_m8 80 rfl) rfl
theorem q1874 : (Jvm.Cond.methodLink "TailorRegimentModel" (455 : Nat) ({ cls := "TailorRegimentModel", name := "isCoat", desc := "(I)Z" } : Jvm.MethodName)) ∈ lw_all := lw_g (lw_at lw_m8 81 rfl) rfl
theorem q1875 : (Jvm.Cond.privateMethod ({ cls := "TailorRegimentModel", name := "isCoat", desc := "(I)Z" } : Jvm.MethodName)) ∈ lw_tbl := lw_at lw_m8 82 rfl
theorem q1876 : (Jvm.Cond.instanceMethod ({ cls := "TailorRegimentModel", name := "isCoat", desc := "(I)Z" } : Jvm.MethodName)) ∈ lw_all := lw_g (lw_at lw_m8 83 rfl) rfl
theorem q1877 : (Jvm.Cond.code ({ cls := "TailorRegimentModel", name := "isCoat", desc := "(I)Z" } : Jvm.MethodName) prog_20_method_48_code (2 : Nat) (Option.some Jvm.ClassFile.FieldType.boolean)) ∈ lw_all := lw_g (lw_at lw_m8 84 rfl) rfl
theorem q1878 : (Jvm.Cond.methodLink "TailorRegimentModel" (434 : Nat) ({ cls := "TailorRegimentModel", name := "wearer", desc := "(I)I" } : Jvm.MethodName)) ∈ lw_all := lw_g (lw_at lw_m8 85 rfl) rfl
theorem q1879 : (Jvm.Cond.privateMethod ({ cls := "TailorRegimentModel", name := "wearer", desc := "(I)I" } : Jvm.MethodName)) ∈ lw_tbl := lw_at lw_m8 86 rfl
theorem q1880 : (Jvm.Cond.instanceMethod ({ cls := "TailorRegimentModel", name := "wearer", desc := "(I)I" } : Jvm.MethodName)) ∈ lw_all := lw_g (lw_at lw_m8 87 rfl) rfl
theorem q1881 : (Jvm.Cond.code ({ cls := "TailorRegimentModel", name := "wearer", desc := "(I)I" } : Jvm.MethodName) prog_20_method_53_code (4 : Nat) (Option.some Jvm.ClassFile.FieldType.int)) ∈ lw_all := lw_g (lw_at lw_m8 88 rfl) rfl
theorem q1883 : (Jvm.Cond.instanceMethod ({ cls := "TailorRegimentModel", name := "misfit", desc := "(II)I" } : Jvm.MethodName)) ∈ lw_all := lw_g (lw_at lw_m8 90 rfl) rfl
theorem q1884 : (Jvm.Cond.selects "TailorRegimentModel" ({ cls := "TailorRegimentModel", name := "misfit", desc := "(II)I" } : Jvm.MethodName) ({ cls := "TailorRegimentModel", name := "misfit", desc := "(II)I" } : Jvm.MethodName)) ∈ lw_all := lw_g (lw_at lw_m8 91 rfl) rfl
theorem q1885 : (Jvm.Cond.code ({ cls := "TailorRegimentModel", name := "misfit", desc := "(II)I" } : Jvm.MethodName) prog_20_method_63_code (3 : Nat) (Option.some Jvm.ClassFile.FieldType.int)) ∈ lw_all := lw_g (lw_at lw_m8 92 rfl) rfl
theorem q1887 : (Jvm.Cond.instanceMethod ({ cls := "TailorRegimentModel", name := "day", desc := "()I" } : Jvm.MethodName)) ∈ lw_all := lw_g (lw_at lw_m8 94 rfl) rfl
theorem q1888 : (Jvm.Cond.selects "TailorRegimentModel" ({ cls := "TailorRegimentModel", name := "day", desc := "()I" } : Jvm.MethodName) ({ cls := "TailorRegimentModel", name := "day", desc := "()I" } : Jvm.MethodName)) ∈ lw_all := lw_g (lw_at lw_m8 95 rfl) rfl
theorem q1889 : (Jvm.Cond.code ({ cls := "TailorRegimentModel", name := "day", desc := "()I" } : Jvm.MethodName) prog_20_method_66_code (3 : Nat) (Option.some Jvm.ClassFile.FieldType.int)) ∈ lw_all := lw_g (lw_at lw_m8 96 rfl) rfl
theorem q1890 : (Jvm.Cond.methodLink "TailorRegimentModel" (458 : Nat) ({ cls := "TailorRegimentModel", name := "act", desc := "()V" } : Jvm.MethodName)) ∈ lw_all := lw_g (lw_at lw_m8 97 rfl) rfl
theorem q1891 : (Jvm.Cond.privateMethod ({ cls := "TailorRegimentModel", name := "act", desc := "()V" } : Jvm.MethodName)) ∈ lw_tbl := lw_at lw_m8 98 rfl
theorem q1892 : (Jvm.Cond.instanceMethod ({ cls := "TailorRegimentModel", name := "act", desc := "()V" } : Jvm.MethodName)) ∈ lw_all := lw_g (lw_at lw_m8 99 rfl) rfl
theorem q1893 : (Jvm.Cond.code ({ cls := "TailorRegimentModel", name := "act", desc := "()V" } : Jvm.MethodName) prog_20_method_64_code (2 : Nat) (Option.none : Option Jvm.ClassFile.FieldType)) ∈ lw_all := lw_g (lw_at lw_m8 100 rfl) rfl
theorem q1894 : (Jvm.Cond.methodLink "TailorRegimentModel" (461 : Nat) ({ cls := "TailorRegimentModel", name := "drawRain", desc := "()Z" } : Jvm.MethodName)) ∈ lw_all := lw_g (lw_at lw_m8 101 rfl) rfl
theorem q1895 : (Jvm.Cond.privateMethod ({ cls := "TailorRegimentModel", name := "drawRain", desc := "()Z" } : Jvm.MethodName)) ∈ lw_tbl := lw_at lw_m8 102 rfl
theorem q1896 : (Jvm.Cond.instanceMethod ({ cls := "TailorRegimentModel", name := "drawRain", desc := "()Z" } : Jvm.MethodName)) ∈ lw_all := lw_g (lw_at lw_m8 103 rfl) rfl
theorem q1897 : (Jvm.Cond.code ({ cls := "TailorRegimentModel", name := "drawRain", desc := "()Z" } : Jvm.MethodName) prog_20_method_59_code (1 : Nat) (Option.some Jvm.ClassFile.FieldType.boolean)) ∈ lw_all := lw_g (lw_at lw_m8 104 rfl) rfl
theorem q1898 : (Jvm.Cond.methodLink "TailorRegimentModel" (464 : Nat) ({ cls := "TailorRegimentModel", name := "goDay", desc := "(Z)I" } : Jvm.MethodName)) ∈ lw_all := lw_g (lw_at lw_m8 105 rfl) rfl
theorem q1899 : (Jvm.Cond.privateMethod ({ cls := "TailorRegimentModel", name := "goDay", desc := "(Z)I" } : Jvm.MethodName)) ∈ lw_tbl := lw_at lw_m8 106 rfl
theorem q1900 : (Jvm.Cond.instanceMethod ({ cls := "TailorRegimentModel", name := "goDay", desc := "(Z)I" } : Jvm.MethodName)) ∈ lw_all := lw_g (lw_at lw_m8 107 rfl) rfl
theorem q1901 : (Jvm.Cond.code ({ cls := "TailorRegimentModel", name := "goDay", desc := "(Z)I" } : Jvm.MethodName) prog_20_method_58_code (4 : Nat) (Option.some Jvm.ClassFile.FieldType.int)) ∈ lw_all := lw_g (lw_at lw_m8 108 rfl) rfl
theorem q1902 : (Jvm.Cond.methodLink "TailorRegimentModel" (431 : Nat) ({ cls := "TailorRegimentModel", name := "lesser", desc := "(II)I" } : Jvm.MethodName)) ∈ lw_all := lw_g (lw_at lw_m8 109 rfl) rfl
theorem q1903 : (Jvm.Cond.static ({ cls := "TailorRegimentModel", name := "lesser", desc := "(II)I" } : Jvm.MethodName)) ∈ lw_all := lw_g (lw_at lw_m8 110 rfl) rfl
theorem q1904 : (Jvm.Cond.code ({ cls := "TailorRegimentModel", name := "lesser", desc := "(II)I" } : Jvm.MethodName) prog_20_method_35_code (2 : Nat) (Option.some Jvm.ClassFile.FieldType.int)) ∈ lw_all := lw_g (lw_at lw_m8 111 rfl) rfl
theorem q1905 : (Jvm.Cond.methodLink "TailorRegimentModel" (437 : Nat) ({ cls := "TailorRegimentModel", name := "greater", desc := "(II)I" } : Jvm.MethodName)) ∈ lw_all := lw_g (lw_at lw_m8 112 rfl) rfl
theorem q1906 : (Jvm.Cond.static ({ cls := "TailorRegimentModel", name := "greater", desc := "(II)I" } : Jvm.MethodName)) ∈ lw_all := lw_g (lw_at lw_m8 113 rfl) rfl
theorem q1907 : (Jvm.Cond.code ({ cls := "TailorRegimentModel", name := "greater", desc := "(II)I" } : Jvm.MethodName) prog_20_method_36_code (2 : Nat) (Option.some Jvm.ClassFile.FieldType.int)) ∈ lw_all := lw_g (lw_at lw_m8 114 rfl) rfl
theorem q1908 : (Jvm.Cond.methodLink "TailorRegimentModel" (440 : Nat) ({ cls := "TailorRegimentModel", name := "wearers", desc := "()I" } : Jvm.MethodName)) ∈ lw_all := lw_g (lw_at lw_m8 115 rfl) rfl
theorem q1909 : (Jvm.Cond.privateMethod ({ cls := "TailorRegimentModel", name := "wearers", desc := "()I" } : Jvm.MethodName)) ∈ lw_tbl := lw_at lw_m8 116 rfl
theorem q1910 : (Jvm.Cond.instanceMethod ({ cls := "TailorRegimentModel", name := "wearers", desc := "()I" } : Jvm.MethodName)) ∈ lw_all := lw_g (lw_at lw_m8 117 rfl) rfl
theorem q1911 : (Jvm.Cond.code ({ cls := "TailorRegimentModel", name := "wearers", desc := "()I" } : Jvm.MethodName) prog_20_method_57_code (3 : Nat) (Option.some Jvm.ClassFile.FieldType.int)) ∈ lw_all := lw_g (lw_at lw_m8 118 rfl) rfl
theorem q1912 : (Jvm.Cond.methodLink "TailorRegimentModel" (443 : Nat) ({ cls := "TailorRegimentModel", name := "fittedOnes", desc := "()I" } : Jvm.MethodName)) ∈ lw_all := lw_g (lw_at lw_m8 119 rfl) rfl
theorem q1913 : (Jvm.Cond.privateMethod ({ cls := "TailorRegimentModel", name := "fittedOnes", desc := "()I" } : Jvm.MethodName)) ∈ lw_tbl := lw_at lw_m8 120 rfl
theorem q1914 : (Jvm.Cond.instanceMethod ({ cls := "TailorRegimentModel", name := "fittedOnes", desc := "()I" } : Jvm.MethodName)) ∈ lw_all := lw_g (lw_at lw_m8 121 rfl) rfl
theorem q1915 : (Jvm.Cond.code ({ cls := "TailorRegimentModel", name := "fittedOnes", desc := "()I" } : Jvm.MethodName) prog_20_method_56_code (3 : Nat) (Option.some Jvm.ClassFile.FieldType.int)) ∈ lw_all := lw_g (lw_at lw_m8 122 rfl) rfl
theorem q1916 : (Jvm.Cond.methodLink "TailorRegimentModel" (428 : Nat) ({ cls := "TailorRegimentModel", name := "fitsOwn", desc := "(I)Z" } : Jvm.MethodName)) ∈ lw_all := lw_g (lw_at lw_m8 123 rfl) rfl
theorem q1917 : (Jvm.Cond.privateMethod ({ cls := "TailorRegimentModel", name := "fitsOwn", desc := "(I)Z" } : Jvm.MethodName)) ∈ lw_tbl := lw_at lw_m8 124 rfl
theorem q1918 : (Jvm.Cond.instanceMethod ({ cls := "TailorRegimentModel", name := "fitsOwn", desc := "(I)Z" } : Jvm.MethodName)) ∈ lw_all := lw_g (lw_at lw_m8 125 rfl) rfl
theorem q1919 : (Jvm.Cond.code ({ cls := "TailorRegimentModel", name := "fitsOwn", desc := "(I)Z" } : Jvm.MethodName) prog_20_method_55_code (2 : Nat) (Option.some Jvm.ClassFile.FieldType.boolean)) ∈ lw_all := lw_g (lw_at lw_m8 126 rfl) rfl
theorem q1921 : (Jvm.Cond.instanceMethod ({ cls := "TailorRegimentModel", name := "don", desc := "(II)I" } : Jvm.MethodName)) ∈ lw_all := lw_g (lw_at lw_m8 128 rfl) rfl
theorem q1922 : (Jvm.Cond.selects "TailorRegimentModel" ({ cls := "TailorRegimentModel", name := "don", desc := "(II)I" } : Jvm.MethodName) ({ cls := "TailorRegimentModel", name := "don", desc := "(II)I" } : Jvm.MethodName)) ∈ lw_all := lw_g (lw_at lw_m8 129 rfl) rfl
theorem q1923 : (Jvm.Cond.code ({ cls := "TailorRegimentModel", name := "don", desc := "(II)I" } : Jvm.MethodName) prog_20_method_67_code (4 : Nat) (Option.some Jvm.ClassFile.FieldType.int)) ∈ lw_all := lw_g (lw_at lw_m8 130 rfl) rfl
theorem q1925 : (Jvm.Cond.instanceMethod ({ cls := "TailorRegimentModel", name := "doff", desc := "(I)I" } : Jvm.MethodName)) ∈ lw_all := lw_g (lw_at lw_m8 132 rfl) rfl
theorem q1926 : (Jvm.Cond.selects "TailorRegimentModel" ({ cls := "TailorRegimentModel", name := "doff", desc := "(I)I" } : Jvm.MethodName) ({ cls := "TailorRegimentModel", name := "doff", desc := "(I)I" } : Jvm.MethodName)) ∈ lw_all := lw_g (lw_at lw_m8 133 rfl) rfl
theorem q1927 : (Jvm.Cond.code ({ cls := "TailorRegimentModel", name := "doff", desc := "(I)I" } : Jvm.MethodName) prog_20_method_68_code (3 : Nat) (Option.some Jvm.ClassFile.FieldType.int)) ∈ lw_all := lw_g (lw_at lw_m8 134 rfl) rfl
theorem q1929 : (Jvm.Cond.instanceMethod ({ cls := "TailorRegimentModel", name := "letout", desc := "(II)I" } : Jvm.MethodName)) ∈ lw_all := lw_g (lw_at lw_m8 136 rfl) rfl
theorem q1930 : (Jvm.Cond.selects "TailorRegimentModel" ({ cls := "TailorRegimentModel", name := "letout", desc := "(II)I" } : Jvm.MethodName) ({ cls := "TailorRegimentModel", name := "letout", desc := "(II)I" } : Jvm.MethodName)) ∈ lw_all := lw_g (lw_at lw_m8 137 rfl) rfl
theorem q1931 : (Jvm.Cond.code ({ cls := "TailorRegimentModel", name := "letout", desc := "(II)I" } : Jvm.MethodName) prog_20_method_69_code (3 : Nat) (Option.some Jvm.ClassFile.FieldType.int)) ∈ lw_all := lw_g (lw_at lw_m8 138 rfl) rfl
theorem q1933 : (Jvm.Cond.instanceMethod ({ cls := "TailorRegimentModel", name := "takein", desc := "(II)I" } : Jvm.MethodName)) ∈ lw_all := lw_g (lw_at lw_m8 140 rfl) rfl
theorem q1934 : (Jvm.Cond.selects "TailorRegimentModel" ({ cls := "TailorRegimentModel", name := "takein", desc := "(II)I" } : Jvm.MethodName) ({ cls := "TailorRegimentModel", name := "takein", desc := "(II)I" } : Jvm.MethodName)) ∈ lw_all := lw_g (lw_at lw_m8 141 rfl) rfl
theorem q1935 : (Jvm.Cond.code ({ cls := "TailorRegimentModel", name := "takein", desc := "(II)I" } : Jvm.MethodName) prog_20_method_70_code (3 : Nat) (Option.some Jvm.ClassFile.FieldType.int)) ∈ lw_all := lw_g (lw_at lw_m8 142 rfl) rfl
theorem q1937 : (Jvm.Cond.instanceMethod ({ cls := "TailorRegimentModel", name := "hem", desc := "(II)I" } : Jvm.MethodName)) ∈ lw_all := lw_g (lw_at lw_m8 144 rfl) rfl
theorem q1938 : (Jvm.Cond.selects "TailorRegimentModel" ({ cls := "TailorRegimentModel", name := "hem", desc := "(II)I" } : Jvm.MethodName) ({ cls := "TailorRegimentModel", name := "hem", desc := "(II)I" } : Jvm.MethodName)) ∈ lw_all := lw_g (lw_at lw_m8 145 rfl) rfl
theorem q1939 : (Jvm.Cond.code ({ cls := "TailorRegimentModel", name := "hem", desc := "(II)I" } : Jvm.MethodName) prog_20_method_71_code (3 : Nat) (Option.some Jvm.ClassFile.FieldType.int)) ∈ lw_all := lw_g (lw_at lw_m8 146 rfl) rfl
theorem q1941 : (Jvm.Cond.instanceMethod ({ cls := "TailorRegimentModel", name := "turn", desc := "(I)I" } : Jvm.MethodName)) ∈ lw_all := lw_g (lw_at lw_m8 148 rfl) rfl
theorem q1942 : (Jvm.Cond.selects "TailorRegimentModel" ({ cls := "TailorRegimentModel", name := "turn", desc := "(I)I" } : Jvm.MethodName) ({ cls := "TailorRegimentModel", name := "turn", desc := "(I)I" } : Jvm.MethodName)) ∈ lw_all := lw_g (lw_at lw_m8 149 rfl) rfl
theorem q1943 : (Jvm.Cond.code ({ cls := "TailorRegimentModel", name := "turn", desc := "(I)I" } : Jvm.MethodName) prog_20_method_72_code (3 : Nat) (Option.some Jvm.ClassFile.FieldType.int)) ∈ lw_all := lw_g (lw_at lw_m8 150 rfl) rfl
theorem q1945 : (Jvm.Cond.instanceMethod ({ cls := "TailorRegimentModel", name := "undo", desc := "()Z" } : Jvm.MethodName)) ∈ lw_all := lw_g (lw_at lw_m8 152 rfl) rfl
theorem q1946 : (Jvm.Cond.selects "TailorRegimentModel" ({ cls := "TailorRegimentModel", name := "undo", desc := "()Z" } : Jvm.MethodName) ({ cls := "TailorRegimentModel", name := "undo", desc := "()Z" } : Jvm.MethodName)) ∈ lw_all := lw_g (lw_at lw_m8 153 rfl) rfl
theorem q1947 : (Jvm.Cond.code ({ cls := "TailorRegimentModel", name := "undo", desc := "()Z" } : Jvm.MethodName) prog_20_method_73_code (1 : Nat) (Option.some Jvm.ClassFile.FieldType.boolean)) ∈ lw_all := lw_g (lw_at lw_m8 154 rfl) rfl
theorem q1948 : (Jvm.Cond.methodLink "TailorRegimentModel" (467 : Nat) ({ cls := "TailorRegimentModel", name := "exchange", desc := "(I)V" } : Jvm.MethodName)) ∈ lw_all := lw_g (lw_at lw_m8 155 rfl) rfl
theorem q1949 : (Jvm.Cond.privateMethod ({ cls := "TailorRegimentModel", name := "exchange", desc := "(I)V" } : Jvm.MethodName)) ∈ lw_tbl := lw_at lw_m8 156 rfl
theorem q1950 : (Jvm.Cond.instanceMethod ({ cls := "TailorRegimentModel", name := "exchange", desc := "(I)V" } : Jvm.MethodName)) ∈ lw_all := lw_g (lw_at lw_m8 157 rfl) rfl
theorem q1951 : (Jvm.Cond.code ({ cls := "TailorRegimentModel", name := "exchange", desc := "(I)V" } : Jvm.MethodName) prog_20_method_65_code (4 : Nat) (Option.none : Option Jvm.ClassFile.FieldType)) ∈ lw_all := lw_g (lw_at lw_m8 158 rfl) rfl
theorem q1953 : (Jvm.Cond.instanceMethod ({ cls := "TailorRegimentModel", name := "redo", desc := "()Z" } : Jvm.MethodName)) ∈ lw_all := lw_g (lw_at lw_m8 160 rfl) rfl
theorem q1954 : (Jvm.Cond.selects "TailorRegimentModel" ({ cls := "TailorRegimentModel", name := "redo", desc := "()Z" } : Jvm.MethodName) ({ cls := "TailorRegimentModel", name := "redo", desc := "()Z" } : Jvm.MethodName)) ∈ lw_all := lw_g (lw_at lw_m8 161 rfl) rfl
theorem q1955 : (Jvm.Cond.code ({ cls := "TailorRegimentModel", name := "redo", desc := "()Z" } : Jvm.MethodName) prog_20_method_74_code (1 : Nat) (Option.some Jvm.ClassFile.FieldType.boolean)) ∈ lw_all := lw_g (lw_at lw_m8 162 rfl) rfl
theorem q1957 : (Jvm.Cond.instanceMethod ({ cls := "TailorRegimentModel", name := "will", desc := "(III)I" } : Jvm.MethodName)) ∈ lw_all := lw_g (lw_at lw_m8 164 rfl) rfl
theorem q1958 : (Jvm.Cond.selects "TailorRegimentModel" ({ cls := "TailorRegimentModel", name := "will", desc := "(III)I" } : Jvm.MethodName) ({ cls := "TailorRegimentModel", name := "will", desc := "(III)I" } : Jvm.MethodName)) ∈ lw_all := lw_g (lw_at lw_m8 165 rfl) rfl
theorem q1959 : (Jvm.Cond.code ({ cls := "TailorRegimentModel", name := "will", desc := "(III)I" } : Jvm.MethodName) prog_20_method_75_code (5 : Nat) (Option.some Jvm.ClassFile.FieldType.int)) ∈ lw_all := lw_g (lw_at lw_m8 166 rfl) rfl
theorem q1961 : (Jvm.Cond.instanceMethod ({ cls := "TailorRegimentModel", name := "out", desc := "(I)I" } : Jvm.MethodName)) ∈ lw_all := lw_g (lw_at lw_m8 168 rfl) rfl
theorem q1962 : (Jvm.Cond.selects "TailorRegimentModel" ({ cls := "TailorRegimentModel", name := "out", desc := "(I)I" } : Jvm.MethodName) ({ cls := "TailorRegimentModel", name := "out", desc := "(I)I" } : Jvm.MethodName)) ∈ lw_all := lw_g (lw_at lw_m8 169 rfl) rfl
theorem q1963 : (Jvm.Cond.code ({ cls := "TailorRegimentModel", name := "out", desc := "(I)I" } : Jvm.MethodName) prog_20_method_76_code (3 : Nat) (Option.some Jvm.ClassFile.FieldType.int)) ∈ lw_all := lw_g (lw_at lw_m8 170 rfl) rfl
theorem q1965 : (Jvm.Cond.instanceMethod ({ cls := "TailorRegimentModel", name := "rout", desc := "()I" } : Jvm.MethodName)) ∈ lw_all := lw_g (lw_at lw_m8 172 rfl) rfl
theorem q1966 : (Jvm.Cond.selects "TailorRegimentModel" ({ cls := "TailorRegimentModel", name := "rout", desc := "()I" } : Jvm.MethodName) ({ cls := "TailorRegimentModel", name := "rout", desc := "()I" } : Jvm.MethodName)) ∈ lw_all := lw_g (lw_at lw_m8 173 rfl) rfl
theorem q1967 : (Jvm.Cond.code ({ cls := "TailorRegimentModel", name := "rout", desc := "()I" } : Jvm.MethodName) prog_20_method_77_code (2 : Nat) (Option.some Jvm.ClassFile.FieldType.int)) ∈ lw_all := lw_g (lw_at lw_m8 174 rfl) rfl
theorem q1969 : (Jvm.Cond.instanceMethod ({ cls := "TailorRegimentModel", name := "fitted", desc := "()I" } : Jvm.MethodName)) ∈ lw_all := lw_g (lw_at lw_m8 176 rfl) rfl
theorem q1970 : (Jvm.Cond.selects "TailorRegimentModel" ({ cls := "TailorRegimentModel", name := "fitted", desc := "()I" } : Jvm.MethodName) ({ cls := "TailorRegimentModel", name := "fitted", desc := "()I" } : Jvm.MethodName)) ∈ lw_all := lw_g (lw_at lw_m8 177 rfl) rfl
theorem q1971 : (Jvm.Cond.code ({ cls := "TailorRegimentModel", name := "fitted", desc := "()I" } : Jvm.MethodName) prog_20_method_78_code (1 : Nat) (Option.some Jvm.ClassFile.FieldType.int)) ∈ lw_all := lw_g (lw_at lw_m8 178 rfl) rfl
theorem q1973 : (Jvm.Cond.instanceMethod ({ cls := "TailorRegimentModel", name := "dress", desc := "(I)I" } : Jvm.MethodName)) ∈ lw_all := lw_g (lw_at lw_m8 180 rfl) rfl
theorem q1974 : (Jvm.Cond.selects "TailorRegimentModel" ({ cls := "TailorRegimentModel", name := "dress", desc := "(I)I" } : Jvm.MethodName) ({ cls := "TailorRegimentModel", name := "dress", desc := "(I)I" } : Jvm.MethodName)) ∈ lw_all := lw_g (lw_at lw_m8 181 rfl) rfl
theorem q1975 : (Jvm.Cond.code ({ cls := "TailorRegimentModel", name := "dress", desc := "(I)I" } : Jvm.MethodName) prog_20_method_83_code (7 : Nat) (Option.some Jvm.ClassFile.FieldType.int)) ∈ lw_all := lw_g (lw_at lw_m8 182 rfl) rfl
theorem q1976 : (Jvm.Cond.methodLink "TailorRegimentModel" (470 : Nat) ({ cls := "TailorRegimentModel", name := "layIlls", desc := "()V" } : Jvm.MethodName)) ∈ lw_all := lw_g (lw_at lw_m8 183 rfl) rfl
theorem q1977 : (Jvm.Cond.privateMethod ({ cls := "TailorRegimentModel", name := "layIlls", desc := "()V" } : Jvm.MethodName)) ∈ lw_tbl := lw_at lw_m8 184 rfl
theorem q1978 : (Jvm.Cond.instanceMethod ({ cls := "TailorRegimentModel", name := "layIlls", desc := "()V" } : Jvm.MethodName)) ∈ lw_all := lw_g (lw_at lw_m8 185 rfl) rfl
theorem q1979 : (Jvm.Cond.code ({ cls := "TailorRegimentModel", name := "layIlls", desc := "()V" } : Jvm.MethodName) prog_20_method_79_code (3 : Nat) (Option.none : Option Jvm.ClassFile.FieldType)) ∈ lw_all := lw_g (lw_at lw_m8 186 rfl) rfl
theorem q1980 : (Jvm.Cond.methodLink "TailorRegimentModel" (473 : Nat) ({ cls := "TailorRegimentModel", name := "power", desc := "(II)I" } : Jvm.MethodName)) ∈ lw_all := lw_g (lw_at lw_m8 187 rfl) rfl
theorem q1981 : (Jvm.Cond.static ({ cls := "TailorRegimentModel", name := "power", desc := "(II)I" } : Jvm.MethodName)) ∈ lw_all := lw_g (lw_at lw_m8 188 rfl) rfl
theorem q1982 : (Jvm.Cond.code ({ cls := "TailorRegimentModel", name := "power", desc := "(II)I" } : Jvm.MethodName) prog_20_method_80_code (4 : Nat) (Option.some Jvm.ClassFile.FieldType.int)) ∈ lw_all := lw_g (lw_at lw_m8 189 rfl) rfl
theorem q1983 : (Jvm.Cond.methodLink "TailorRegimentModel" (476 : Nat) ({ cls := "TailorRegimentModel", name := "layDress", desc := "(I)I" } : Jvm.MethodName)) ∈ lw_all := lw_g (lw_at lw_m8 190 rfl) rfl
theorem q1984 : (Jvm.Cond.privateMethod ({ cls := "TailorRegimentModel", name := "layDress", desc := "(I)I" } : Jvm.MethodName)) ∈ lw_tbl := lw_at lw_m8 191 rfl
theorem q1985 : (Jvm.Cond.instanceMethod ({ cls := "TailorRegimentModel", name := "layDress", desc := "(I)I" } : Jvm.MethodName)) ∈ lw_all := lw_g (lw_at lw_m8 192 rfl) rfl
theorem q1986 : (Jvm.Cond.code ({ cls := "TailorRegimentModel", name := "layDress", desc := "(I)I" } : Jvm.MethodName) prog_20_method_81_code (7 : Nat) (Option.some Jvm.ClassFile.FieldType.int)) ∈ lw_all := lw_g (lw_at lw_m8 193 rfl) rfl
theorem q1987 : (Jvm.Cond.methodLink "TailorRegimentModel" (479 : Nat) ({ cls := "TailorRegimentModel", name := "illOfRow", desc := "()I" } : Jvm.MethodName)) ∈ lw_all := lw_g (lw_at lw_m8 194 rfl) rfl
theorem q1988 : (Jvm.Cond.privateMethod ({ cls := "TailorRegimentModel", name := "illOfRow", desc := "()I" } : Jvm.MethodName)) ∈ lw_tbl := lw_at lw_m8 195 rfl
theorem q1989 : (Jvm.Cond.instanceMethod ({ cls := "TailorRegimentModel", name := "illOfRow", desc := "()I" } : Jvm.MethodName)) ∈ lw_all := lw_g (lw_at lw_m8 196 rfl) rfl
theorem q1990 : (Jvm.Cond.code ({ cls := "TailorRegimentModel", name := "illOfRow", desc := "()I" } : Jvm.MethodName) prog_20_method_82_code (3 : Nat) (Option.some Jvm.ClassFile.FieldType.int)) ∈ lw_all := lw_g (lw_at lw_m8 197 rfl) rfl
theorem q1992 : (Jvm.Cond.instanceMethod ({ cls := "TailorRegimentModel", name := "sewing", desc := "(III)I" } : Jvm.MethodName)) ∈ lw_all := lw_g (lw_at lw_m8 199 rfl) rfl
theorem q1993 : (Jvm.Cond.selects "TailorRegimentModel" ({ cls := "TailorRegimentModel", name := "sewing", desc := "(III)I" } : Jvm.MethodName) ({ cls := "TailorRegimentModel", name := "sewing", desc := "(III)I" } : Jvm.MethodName)) ∈ lw_all := lw_g (lw_at lw_m8 200 rfl) rfl
theorem q1994 : (Jvm.Cond.code ({ cls := "TailorRegimentModel", name := "sewing", desc := "(III)I" } : Jvm.MethodName) prog_20_method_85_code (10 : Nat) (Option.some Jvm.ClassFile.FieldType.int)) ∈ lw_all := lw_g (lw_at lw_m8 201 rfl) rfl
theorem q1995 : (Jvm.Cond.methodLink "TailorRegimentModel" (482 : Nat) ({ cls := "TailorRegimentModel", name := "isSewn", desc := "(IIII)Z" } : Jvm.MethodName)) ∈ lw_all := lw_g (lw_at lw_m8 202 rfl) rfl
theorem q1996 : (Jvm.Cond.privateMethod ({ cls := "TailorRegimentModel", name := "isSewn", desc := "(IIII)Z" } : Jvm.MethodName)) ∈ lw_tbl := lw_at lw_m8 203 rfl
theorem q1997 : (Jvm.Cond.instanceMethod ({ cls := "TailorRegimentModel", name := "isSewn", desc := "(IIII)Z" } : Jvm.MethodName)) ∈ lw_all := lw_g (lw_at lw_m8 204 rfl) rfl
theorem q1998 : (Jvm.Cond.code ({ cls := "TailorRegimentModel", name := "isSewn", desc := "(IIII)Z" } : Jvm.MethodName) prog_20_method_84_code (5 : Nat) (Option.some Jvm.ClassFile.FieldType.boolean)) ∈ lw_all := lw_g (lw_at lw_m8 205 rfl) rfl
theorem q2000 : (Jvm.Cond.instanceMethod ({ cls := "TailorRegimentModel", name := "rota", desc := "(I)I" } : Jvm.MethodName)) ∈ lw_all := lw_g (lw_at lw_m8 207 rfl) rfl
theorem q2001 : (Jvm.Cond.selects "TailorRegimentModel" ({ cls := "TailorRegimentModel", name := "rota", desc := "(I)I" } : Jvm.MethodName) ({ cls := "TailorRegimentModel", name := "rota", desc := "(I)I" } : Jvm.MethodName)) ∈ lw_all := lw_g (lw_at lw_m8 208 rfl) rfl
theorem q2002 : (Jvm.Cond.code ({ cls := "TailorRegimentModel", name := "rota", desc := "(I)I" } : Jvm.MethodName) prog_20_method_86_code (6 : Nat) (Option.some Jvm.ClassFile.FieldType.int)) ∈ lw_all := lw_g (lw_at lw_m8 209 rfl) rfl
theorem q2003 : (Jvm.Cond.methodLink "TailorRegimentModel" (486 : Nat) ({ cls := "TailorRegimentModel", name := "members", desc := "(I)I" } : Jvm.MethodName)) ∈ lw_all := lw_g (lw_at lw_m8 210 rfl) rfl
theorem q2004 : (Jvm.Cond.static ({ cls := "TailorRegimentModel", name := "members", desc := "(I)I" } : Jvm.MethodName)) ∈ lw_all := lw_g (lw_at lw_m8 211 rfl) rfl
theorem q2005 : (Jvm.Cond.code ({ cls := "TailorRegimentModel", name := "members", desc := "(I)I" } : Jvm.MethodName) prog_20_method_49_code (3 : Nat) (Option.some Jvm.ClassFile.FieldType.int)) ∈ lw_all := lw_g (lw_at lw_m8 212 rfl) rfl
theorem q2007 : (Jvm.Cond.instanceMethod ({ cls := "TailorRegimentModel", name := "change", desc := "(I)I" } : Jvm.MethodName)) ∈ lw_all := lw_g (lw_at lw_m8 214 rfl) rfl
theorem q2008 : (Jvm.Cond.selects "TailorRegimentModel" ({ cls := "TailorRegimentModel", name := "change", desc := "(I)I" } : Jvm.MethodName) ({ cls := "TailorRegimentModel", name := "change", desc := "(I)I" } : Jvm.MethodName)) ∈ lw_all := lw_g (lw_at lw_m8 215 rfl) rfl
theorem q2009 : (Jvm.Cond.code ({ cls := "TailorRegimentModel", name := "change", desc := "(I)I" } : Jvm.MethodName) prog_20_method_87_code (7 : Nat) (Option.some Jvm.ClassFile.FieldType.int)) ∈ lw_all := lw_g (lw_at lw_m8 216 rfl) rfl
theorem q2010 : (Jvm.Cond.methodLink "TailorRegimentModel" (489 : Nat) ({ cls := "TailorRegimentModel", name := "fitted", desc := "()I" } : Jvm.MethodName)) ∈ lw_all := lw_g (lw_at lw_m8 217 rfl) rfl
theorem q2012 : (Jvm.Cond.instanceMethod ({ cls := "TailorRegimentModel", name := "front", desc := "(II)I" } : Jvm.MethodName)) ∈ lw_all := lw_g (lw_at lw_m8 219 rfl) rfl
theorem q2013 : (Jvm.Cond.selects "TailorRegimentModel" ({ cls := "TailorRegimentModel", name := "front", desc := "(II)I" } : Jvm.MethodName) ({ cls := "TailorRegimentModel", name := "front", desc := "(II)I" } : Jvm.MethodName)) ∈ lw_all := lw_g (lw_at lw_m8 220 rfl) rfl
theorem q2014 : (Jvm.Cond.code ({ cls := "TailorRegimentModel", name := "front", desc := "(II)I" } : Jvm.MethodName) prog_20_method_89_code (6 : Nat) (Option.some Jvm.ClassFile.FieldType.int)) ∈ lw_all := lw_g (lw_at lw_m8 221 rfl) rfl
theorem q2015 : (Jvm.Cond.methodLink "TailorRegimentModel" (492 : Nat) ({ cls := "TailorRegimentModel", name := "wideOf", desc := "(I)I" } : Jvm.MethodName)) ∈ lw_all := lw_g (lw_at lw_m8 222 rfl) rfl
theorem q2016 : (Jvm.Cond.privateMethod ({ cls := "TailorRegimentModel", name := "wideOf", desc := "(I)I" } : Jvm.MethodName)) ∈ lw_tbl := lw_at lw_m8 223 rfl
theorem q2017 : (Jvm.Cond.instanceMethod ({ cls := "TailorRegimentModel", name := "wideOf", desc := "(I)I" } : Jvm.MethodName)) ∈ lw_all := lw_g (lw_at lw_m8 224 rfl) rfl
theorem q2018 : (Jvm.Cond.code ({ cls := "TailorRegimentModel", name := "wideOf", desc := "(I)I" } : Jvm.MethodName) prog_20_method_88_code (4 : Nat) (Option.some Jvm.ClassFile.FieldType.int)) ∈ lw_all := lw_g (lw_at lw_m8 225 rfl) rfl
theorem q2020 : (Jvm.Cond.instanceMethod ({ cls := "TailorRegimentModel", name := "wings", desc := "(I)I" } : Jvm.MethodName)) ∈ lw_all := lw_g (lw_at lw_m8 227 rfl) rfl
theorem q2021 : (Jvm.Cond.selects "TailorRegimentModel" ({ cls := "TailorRegimentModel", name := "wings", desc := "(I)I" } : Jvm.MethodName) ({ cls := "TailorRegimentModel", name := "wings", desc := "(I)I" } : Jvm.MethodName)) ∈ lw_all := lw_g (lw_at lw_m8 228 rfl) rfl
theorem q2022 : (Jvm.Cond.code ({ cls := "TailorRegimentModel", name := "wings", desc := "(I)I" } : Jvm.MethodName) prog_20_method_90_code (8 : Nat) (Option.some Jvm.ClassFile.FieldType.int)) ∈ lw_all := lw_g (lw_at lw_m8 229 rfl) rfl
theorem q2023 : (Jvm.Cond.methodLink "TailorRegimentModel" (495 : Nat) ({ cls := "TailorRegimentModel", name := "plain", desc := "(I)I" } : Jvm.MethodName)) ∈ lw_all := lw_g (lw_at lw_m8 230 rfl) rfl
theorem q2024 : (Jvm.Cond.static ({ cls := "TailorRegimentModel", name := "plain", desc := "(I)I" } : Jvm.MethodName)) ∈ lw_all := lw_g (lw_at lw_m8 231 rfl) rfl
theorem q2025 : (Jvm.Cond.code ({ cls := "TailorRegimentModel", name := "plain", desc := "(I)I" } : Jvm.MethodName) prog_20_method_37_code (1 : Nat) (Option.some Jvm.ClassFile.FieldType.int)) ∈ lw_all := lw_g (lw_at lw_m8 232 rfl) rfl
theorem q2027 : (Jvm.Cond.instanceMethod ({ cls := "TailorRegimentModel", name := "cloth", desc := "()I" } : Jvm.MethodName)) ∈ lw_all := lw_g (lw_at lw_m8 234 rfl) rfl
theorem q2028 : (Jvm.Cond.selects "TailorRegimentModel" ({ cls := "TailorRegimentModel", name := "cloth", desc := "()I" } : Jvm.MethodName) ({ cls := "TailorRegimentModel", name := "cloth", desc := "()I" } : Jvm.MethodName)) ∈ lw_all := lw_g (lw_at lw_m8 235 rfl) rfl
theorem q2029 : (Jvm.Cond.code ({ cls := "TailorRegimentModel", name := "cloth", desc := "()I" } : Jvm.MethodName) prog_20_method_92_code (3 : Nat) (Option.some Jvm.ClassFile.FieldType.int)) ∈ lw_all := lw_g (lw_at lw_m8 236 rfl) rfl
theorem q2030 : (Jvm.Cond.constant "TailorRegimentModel" (498 : Nat) (1000000 : Int32)) ∈ lw_all := lw_g (lw_at lw_m8 237 rfl) rfl
theorem q2031 : (Jvm.Cond.methodLink "TailorRegimentModel" (499 : Nat) ({ cls := "TailorRegimentModel", name := "rowOf", desc := "(I)I" } : Jvm.MethodName)) ∈ lw_all := lw_g (lw_at lw_m8 238 rfl) rfl
theorem q2032 : (Jvm.Cond.privateMethod ({ cls := "TailorRegimentModel", name := "rowOf", desc := "(I)I" } : Jvm.MethodName)) ∈ lw_tbl := lw_at lw_m8 239 rfl
theorem q2033 : (Jvm.Cond.instanceMethod ({ cls := "TailorRegimentModel", name := "rowOf", desc := "(I)I" } : Jvm.MethodName)) ∈ lw_all := lw_g (lw_at lw_m9 0 rfl) rfl
theorem q2034 : (Jvm.Cond.code ({ cls := "TailorRegimentModel", name := "rowOf", desc := "(I)I" } : Jvm.MethodName) prog_20_method_91_code (5 : Nat) (Option.some Jvm.ClassFile.FieldType.int)) ∈ lw_all := lw_g (lw_at lw_m9 1 rfl) rfl
theorem q2036 : (Jvm.Cond.instanceMethod ({ cls := "TailorRegimentModel", name := "buttons", desc := "()I" } : Jvm.MethodName)) ∈ lw_all := lw_g (lw_at lw_m9 3 rfl) rfl
theorem q2037 : (Jvm.Cond.selects "TailorRegimentModel" ({ cls := "TailorRegimentModel", name := "buttons", desc := "()I" } : Jvm.MethodName) ({ cls := "TailorRegimentModel", name := "buttons", desc := "()I" } : Jvm.MethodName)) ∈ lw_all := lw_g (lw_at lw_m9 4 rfl) rfl
theorem q2038 : (Jvm.Cond.code ({ cls := "TailorRegimentModel", name := "buttons", desc := "()I" } : Jvm.MethodName) prog_20_method_95_code (4 : Nat) (Option.some Jvm.ClassFile.FieldType.int)) ∈ lw_all := lw_g (lw_at lw_m9 5 rfl) rfl
theorem q2039 : (Jvm.Cond.methodLink "TailorRegimentModel" (505 : Nat) ({ cls := "TailorRegimentModel", name := "layColours", desc := "(II)Z" } : Jvm.MethodName)) ∈ lw_all := lw_g (lw_at lw_m9 6 rfl) rfl
theorem q2040 : (Jvm.Cond.privateMethod ({ cls := "TailorRegimentModel", name := "layColours", desc := "(II)Z" } : Jvm.MethodName)) ∈ lw_tbl := lw_at lw_m9 7 rfl
theorem q2041 : (Jvm.Cond.instanceMethod ({ cls := "TailorRegimentModel", name := "layColours", desc := "(II)Z" } : Jvm.MethodName)) ∈ lw_all := lw_g (lw_at lw_m9 8 rfl) rfl
theorem q2042 : (Jvm.Cond.code ({ cls := "TailorRegimentModel", name := "layColours", desc := "(II)Z" } : Jvm.MethodName) prog_20_method_94_code (7 : Nat) (Option.some Jvm.ClassFile.FieldType.boolean)) ∈ lw_all := lw_g (lw_at lw_m9 9 rfl) rfl
theorem q2043 : (Jvm.Cond.methodLink "TailorRegimentModel" (502 : Nat) ({ cls := "TailorRegimentModel", name := "areTaken", desc := "(II)Z" } : Jvm.MethodName)) ∈ lw_all := lw_g (lw_at lw_m9 10 rfl) rfl
theorem q2044 : (Jvm.Cond.privateMethod ({ cls := "TailorRegimentModel", name := "areTaken", desc := "(II)Z" } : Jvm.MethodName)) ∈ lw_tbl := lw_at lw_m9 11 rfl
theorem q2045 : (Jvm.Cond.instanceMethod ({ cls := "TailorRegimentModel", name := "areTaken", desc := "(II)Z" } : Jvm.MethodName)) ∈ lw_all := lw_g (lw_at lw_m9 12 rfl) rfl
theorem q2046 : (Jvm.Cond.code ({ cls := "TailorRegimentModel", name := "areTaken", desc := "(II)Z" } : Jvm.MethodName) prog_20_method_93_code (3 : Nat) (Option.some Jvm.ClassFile.FieldType.boolean)) ∈ lw_all := lw_g (lw_at lw_m9 13 rfl) rfl
theorem q2048 : (Jvm.Cond.instanceMethod ({ cls := "TailorRegimentModel", name := "reach", desc := "(II)I" } : Jvm.MethodName)) ∈ lw_all := lw_g (lw_at lw_m9 15 rfl) rfl
theorem q2049 : (Jvm.Cond.selects "TailorRegimentModel" ({ cls := "TailorRegimentModel", name := "reach", desc := "(II)I" } : Jvm.MethodName) ({ cls := "TailorRegimentModel", name := "reach", desc := "(II)I" } : Jvm.MethodName)) ∈ lw_all := lw_g (lw_at lw_m9 16 rfl) rfl
theorem q2050 : (Jvm.Cond.code ({ cls := "TailorRegimentModel", name := "reach", desc := "(II)I" } : Jvm.MethodName) prog_20_method_99_code (7 : Nat) (Option.some Jvm.ClassFile.FieldType.int)) ∈ lw_all := lw_g (lw_at lw_m9 17 rfl) rfl
theorem q2051 : (Jvm.Cond.methodLink "TailorRegimentModel" (511 : Nat) ({ cls := "TailorRegimentModel", name := "freeCoats", desc := "()I" } : Jvm.MethodName)) ∈ lw_all := lw_g (lw_at lw_m9 18 rfl) rfl
theorem q2052 : (Jvm.Cond.privateMethod ({ cls := "TailorRegimentModel", name := "freeCoats", desc := "()I" } : Jvm.MethodName)) ∈ lw_tbl := lw_at lw_m9 19 rfl
theorem q2053 : (Jvm.Cond.instanceMethod ({ cls := "TailorRegimentModel", name := "freeCoats", desc := "()I" } : Jvm.MethodName)) ∈ lw_all := lw_g (lw_at lw_m9 20 rfl) rfl
theorem q2054 : (Jvm.Cond.code ({ cls := "TailorRegimentModel", name := "freeCoats", desc := "()I" } : Jvm.MethodName) prog_20_method_98_code (3 : Nat) (Option.some Jvm.ClassFile.FieldType.int)) ∈ lw_all := lw_g (lw_at lw_m9 21 rfl) rfl
theorem q2055 : (Jvm.Cond.methodLink "TailorRegimentModel" (514 : Nat) ({ cls := "TailorRegimentModel", name := "isRest", desc := "(IIIII)Z" } : Jvm.MethodName)) ∈ lw_all := lw_g (lw_at lw_m9 22 rfl) rfl
theorem q2056 : (Jvm.Cond.privateMethod ({ cls := "TailorRegimentModel", name := "isRest", desc := "(IIIII)Z" } : Jvm.MethodName)) ∈ lw_tbl := lw_at lw_m9 23 rfl
theorem q2057 : (Jvm.Cond.instanceMethod ({ cls := "TailorRegimentModel", name := "isRest", desc := "(IIIII)Z" } : Jvm.MethodName)) ∈ lw_all := lw_g (lw_at lw_m9 24 rfl) rfl
theorem q2058 : (Jvm.Cond.code ({ cls := "TailorRegimentModel", name := "isRest", desc := "(IIIII)Z" } : Jvm.MethodName) prog_20_method_97_code (8 : Nat) (Option.some Jvm.ClassFile.FieldType.boolean)) ∈ lw_all := lw_g (lw_at lw_m9 25 rfl) rfl
theorem q2059 : (Jvm.Cond.methodLink "TailorRegimentModel" (508 : Nat) ({ cls := "TailorRegimentModel", name := "reached", desc := "(III)I" } : Jvm.MethodName)) ∈ lw_all := lw_g (lw_at lw_m9 26 rfl) rfl
theorem q2060 : (Jvm.Cond.privateMethod ({ cls := "TailorRegimentModel", name := "reached", desc := "(III)I" } : Jvm.MethodName)) ∈ lw_tbl := lw_at lw_m9 27 rfl
theorem q2061 : (Jvm.Cond.instanceMethod ({ cls := "TailorRegimentModel", name := "reached", desc := "(III)I" } : Jvm.MethodName)) ∈ lw_all := lw_g (lw_at lw_m9 28 rfl) rfl
theorem q2062 : (Jvm.Cond.code ({ cls := "TailorRegimentModel", name := "reached", desc := "(III)I" } : Jvm.MethodName) prog_20_method_96_code (4 : Nat) (Option.some Jvm.ClassFile.FieldType.int)) ∈ lw_all := lw_g (lw_at lw_m9 29 rfl) rfl
theorem q2064 : (Jvm.Cond.instanceMethod ({ cls := "TailorRegimentModel", name := "turning", desc := "()I" } : Jvm.MethodName)) ∈ lw_all := lw_g (lw_at lw_m9 31 rfl) rfl
theorem q2065 : (Jvm.Cond.selects "TailorRegimentModel" ({ cls := "TailorRegimentModel", name := "turning", desc := "()I" } : Jvm.MethodName) ({ cls := "TailorRegimentModel", name := "turning", desc := "()I" } : Jvm.MethodName)) ∈ lw_all := lw_g (lw_at lw_m9 32 rfl) rfl
theorem q2066 : (Jvm.Cond.code ({ cls := "TailorRegimentModel", name := "turning", desc := "()I" } : Jvm.MethodName) prog_20_method_100_code (5 : Nat) (Option.some Jvm.ClassFile.FieldType.int)) ∈ lw_all := lw_g (lw_at lw_m9 33 rfl) rfl
theorem q2068 : (Jvm.Cond.instanceMethod ({ cls := "TailorRegimentModel", name := "rags", desc := "()I" } : Jvm.MethodName)) ∈ lw_all := lw_g (lw_at lw_m9 35 rfl) rfl
theorem q2069 : (Jvm.Cond.selects "TailorRegimentModel" ({ cls := "TailorRegimentModel", name := "rags", desc := "()I" } : Jvm.MethodName) ({ cls := "TailorRegimentModel", name := "rags", desc := "()I" } : Jvm.MethodName)) ∈ lw_all := lw_g (lw_at lw_m9 36 rfl) rfl
theorem q2070 : (Jvm.Cond.code ({ cls := "TailorRegimentModel", name := "rags", desc := "()I" } : Jvm.MethodName) prog_20_method_102_code (3 : Nat) (Option.some Jvm.ClassFile.FieldType.int)) ∈ lw_all := lw_g (lw_at lw_m9 37 rfl) rfl
theorem q2071 : (Jvm.Cond.methodLink "TailorRegimentModel" (518 : Nat) ({ cls := "TailorRegimentModel", name := "menFor", desc := "(I)I" } : Jvm.MethodName)) ∈ lw_all := lw_g (lw_at lw_m9 38 rfl) rfl
theorem q2072 : (Jvm.Cond.privateMethod ({ cls := "TailorRegimentModel", name := "menFor", desc := "(I)I" } : Jvm.MethodName)) ∈ lw_tbl := lw_at lw_m9 39 rfl
theorem q2073 : (Jvm.Cond.instanceMethod ({ cls := "TailorRegimentModel", name := "menFor", desc := "(I)I" } : Jvm.MethodName)) ∈ lw_all := lw_g (lw_at lw_m9 40 rfl) rfl
theorem q2074 : (Jvm.Cond.code ({ cls := "TailorRegimentModel", name := "menFor", desc := "(I)I" } : Jvm.MethodName) prog_20_method_101_code (4 : Nat) (Option.some Jvm.ClassFile.FieldType.int)) ∈ lw_all := lw_g (lw_at lw_m9 41 rfl) rfl
theorem q2076 : (Jvm.Cond.instanceMethod ({ cls := "TailorRegimentModel", name := "naked", desc := "()I" } : Jvm.MethodName)) ∈ lw_all := lw_g (lw_at lw_m9 43 rfl) rfl
theorem q2077 : (Jvm.Cond.selects "TailorRegimentModel" ({ cls := "TailorRegimentModel", name := "naked", desc := "()I" } : Jvm.MethodName) ({ cls := "TailorRegimentModel", name := "naked", desc := "()I" } : Jvm.MethodName)) ∈ lw_all := lw_g (lw_at lw_m9 44 rfl) rfl
theorem q2078 : (Jvm.Cond.code ({ cls := "TailorRegimentModel", name := "naked", desc := "()I" } : Jvm.MethodName) prog_20_method_103_code (3 : Nat) (Option.some Jvm.ClassFile.FieldType.int)) ∈ lw_all := lw_g (lw_at lw_m9 45 rfl) rfl
theorem q2080 : (Jvm.Cond.instanceMethod ({ cls := "TailorRegimentModel", name := "popular", desc := "(I)I" } : Jvm.MethodName)) ∈ lw_all := lw_g (lw_at lw_m9 47 rfl) rfl
theorem q2081 : (Jvm.Cond.selects "TailorRegimentModel" ({ cls := "TailorRegimentModel", name := "popular", desc := "(I)I" } : Jvm.MethodName) ({ cls := "TailorRegimentModel", name := "popular", desc := "(I)I" } : Jvm.MethodName)) ∈ lw_all := lw_g (lw_at lw_m9 48 rfl) rfl
theorem q2082 : (Jvm.Cond.code ({ cls := "TailorRegimentModel", name := "popular", desc := "(I)I" } : Jvm.MethodName) prog_20_method_104_code (2 : Nat) (Option.some Jvm.ClassFile.FieldType.int)) ∈ lw_all := lw_g (lw_at lw_m9 49 rfl) rfl
theorem q2084 : (Jvm.Cond.instanceMethod ({ cls := "TailorRegimentModel", name := "law", desc := "(I)I" } : Jvm.MethodName)) ∈ lw_all := lw_g (lw_at lw_m9 51 rfl) rfl
theorem q2085 : (Jvm.Cond.selects "TailorRegimentModel" ({ cls := "TailorRegimentModel", name := "law", desc := "(I)I" } : Jvm.MethodName) ({ cls := "TailorRegimentModel", name := "law", desc := "(I)I" } : Jvm.MethodName)) ∈ lw_all := lw_g (lw_at lw_m9 52 rfl) rfl
theorem q2086 : (Jvm.Cond.code ({ cls := "TailorRegimentModel", name := "law", desc := "(I)I" } : Jvm.MethodName) prog_20_method_106_code (4 : Nat) (Option.some Jvm.ClassFile.FieldType.int)) ∈ lw_all := lw_g (lw_at lw_m9 53 rfl) rfl
theorem q2087 : (Jvm.Cond.methodLink "TailorRegimentModel" (521 : Nat) ({ cls := "TailorRegimentModel", name := "ownIll", desc := "(I)I" } : Jvm.MethodName)) ∈ lw_all := lw_g (lw_at lw_m9 54 rfl) rfl
theorem q2088 : (Jvm.Cond.privateMethod ({ cls := "TailorRegimentModel", name := "ownIll", desc := "(I)I" } : Jvm.MethodName)) ∈ lw_tbl := lw_at lw_m9 55 rfl
theorem q2089 : (Jvm.Cond.instanceMethod ({ cls := "TailorRegimentModel", name := "ownIll", desc := "(I)I" } : Jvm.MethodName)) ∈ lw_all := lw_g (lw_at lw_m9 56 rfl) rfl
theorem q2090 : (Jvm.Cond.code ({ cls := "TailorRegimentModel", name := "ownIll", desc := "(I)I" } : Jvm.MethodName) prog_20_method_105_code (2 : Nat) (Option.some Jvm.ClassFile.FieldType.int)) ∈ lw_all := lw_g (lw_at lw_m9 57 rfl) rfl
theorem q2092 : (Jvm.Cond.instanceMethod ({ cls := "TailorRegimentModel", name := "ease", desc := "()I" } : Jvm.MethodName)) ∈ lw_all := lw_g (lw_at lw_m9 59 rfl) rfl
theorem q2093 : (Jvm.Cond.selects "TailorRegimentModel" ({ cls := "TailorRegimentModel", name := "ease", desc := "()I" } : Jvm.MethodName) ({ cls := "TailorRegimentModel", name := "ease", desc := "()I" } : Jvm.MethodName)) ∈ lw_all := lw_g (lw_at lw_m9 60 rfl) rfl
theorem q2094 : (Jvm.Cond.code ({ cls := "TailorRegimentModel", name := "ease", desc := "()I" } : Jvm.MethodName) prog_20_method_107_code (3 : Nat) (Option.some Jvm.ClassFile.FieldType.int)) ∈ lw_all := lw_g (lw_at lw_m9 61 rfl) rfl
theorem q2096 : (Jvm.Cond.instanceMethod ({ cls := "TailorRegimentModel", name := "breadth", desc := "()I" } : Jvm.MethodName)) ∈ lw_all := lw_g (lw_at lw_m9 63 rfl) rfl
theorem q2097 : (Jvm.Cond.selects "TailorRegimentModel" ({ cls := "TailorRegimentModel", name := "breadth", desc := "()I" } : Jvm.MethodName) ({ cls := "TailorRegimentModel", name := "breadth", desc := "()I" } : Jvm.MethodName)) ∈ lw_all := lw_g (lw_at lw_m9 64 rfl) rfl
theorem q2098 : (Jvm.Cond.code ({ cls := "TailorRegimentModel", name := "breadth", desc := "()I" } : Jvm.MethodName) prog_20_method_108_code (1 : Nat) (Option.some Jvm.ClassFile.FieldType.int)) ∈ lw_all := lw_g (lw_at lw_m9 65 rfl) rfl
theorem q2100 : (Jvm.Cond.instanceMethod ({ cls := "TailorRegimentModel", name := "odds", desc := "(II)I" } : Jvm.MethodName)) ∈ lw_all := lw_g (lw_at lw_m9 67 rfl) rfl
theorem q2101 : (Jvm.Cond.selects "TailorRegimentModel" ({ cls := "TailorRegimentModel", name := "odds", desc := "(II)I" } : Jvm.MethodName) ({ cls := "TailorRegimentModel", name := "odds", desc := "(II)I" } : Jvm.MethodName)) ∈ lw_all := lw_g (lw_at lw_m9 68 rfl) rfl
theorem q2102 : (Jvm.Cond.code ({ cls := "TailorRegimentModel", name := "odds", desc := "(II)I" } : Jvm.MethodName) prog_20_method_110_code (6 : Nat) (Option.some Jvm.ClassFile.FieldType.int)) ∈ lw_all := lw_g (lw_at lw_m9 69 rfl) rfl
theorem q2103 : (Jvm.Cond.methodLink "TailorRegimentModel" (524 : Nat) ({ cls := "TailorRegimentModel", name := "divisor", desc := "(II)I" } : Jvm.MethodName)) ∈ lw_all := lw_g (lw_at lw_m9 70 rfl) rfl
theorem q2104 : (Jvm.Cond.static ({ cls := "TailorRegimentModel", name := "divisor", desc := "(II)I" } : Jvm.MethodName)) ∈ lw_all := lw_g (lw_at lw_m9 71 rfl) rfl
theorem q2105 : (Jvm.Cond.code ({ cls := "TailorRegimentModel", name := "divisor", desc := "(II)I" } : Jvm.MethodName) prog_20_method_109_code (5 : Nat) (Option.some Jvm.ClassFile.FieldType.int)) ∈ lw_all := lw_g (lw_at lw_m9 72 rfl) rfl
theorem q2107 : (Jvm.Cond.instanceMethod ({ cls := "TailorRegimentModel", name := "lies", desc := "(I)I" } : Jvm.MethodName)) ∈ lw_all := lw_g (lw_at lw_m9 74 rfl) rfl
theorem q2108 : (Jvm.Cond.selects "TailorRegimentModel" ({ cls := "TailorRegimentModel", name := "lies", desc := "(I)I" } : Jvm.MethodName) ({ cls := "TailorRegimentModel", name := "lies", desc := "(I)I" } : Jvm.MethodName)) ∈ lw_all := lw_g (lw_at lw_m9 75 rfl) rfl
theorem q2109 : (Jvm.Cond.code ({ cls := "TailorRegimentModel", name := "lies", desc := "(I)I" } : Jvm.MethodName) prog_20_method_111_code (2 : Nat) (Option.some Jvm.ClassFile.FieldType.int)) ∈ lw_all := lw_g (lw_at lw_m9 76 rfl) rfl
theorem q2111 : (Jvm.Cond.instanceMethod ({ cls := "TailorRegimentModel", name := "seen", desc := "(IZ)I" } : Jvm.MethodName)) ∈ lw_all := lw_g (lw_at lw_m9 78 rfl) rfl
theorem q2112 : (Jvm.Cond.selects "TailorRegimentModel" ({ cls := "TailorRegimentModel", name := "seen", desc := "(IZ)I" } : Jvm.MethodName) ({ cls := "TailorRegimentModel", name := "seen", desc := "(IZ)I" } : Jvm.MethodName)) ∈ lw_all := lw_g (lw_at lw_m9 79 rfl) rfl
theorem q2113 : (Jvm.Cond.code ({ cls := "TailorRegimentModel", name := "seen", desc := "(IZ)I" } : Jvm.MethodName) prog_20_method_112_code (3 : Nat) (Option.some Jvm.ClassFile.FieldType.int)) ∈ lw_all := lw_g (lw_at lw_m9 80 rfl) rfl
theorem q2115 : (Jvm.Cond.instanceMethod ({ cls := "TailorRegimentModel", name := "untell", desc := "(I)Z" } : Jvm.MethodName)) ∈ lw_all := lw_g (lw_at lw_m9 82 rfl) rfl
theorem q2116 : (Jvm.Cond.selects "TailorRegimentModel" ({ cls := "TailorRegimentModel", name := "untell", desc := "(I)Z" } : Jvm.MethodName) ({ cls := "TailorRegimentModel", name := "untell", desc := "(I)Z" } : Jvm.MethodName)) ∈ lw_all := lw_g (lw_at lw_m9 83 rfl) rfl
theorem q2117 : (Jvm.Cond.code ({ cls := "TailorRegimentModel", name := "untell", desc := "(I)Z" } : Jvm.MethodName) prog_20_method_113_code (2 : Nat) (Option.some Jvm.ClassFile.FieldType.boolean)) ∈ lw_all := lw_g (lw_at lw_m9 84 rfl) rfl
theorem q2119 : (Jvm.Cond.instanceMethod ({ cls := "TailorRegimentModel", name := "later", desc := "(I)I" } : Jvm.MethodName)) ∈ lw_all := lw_g (lw_at lw_m9 86 rfl) rfl
theorem q2120 : (Jvm.Cond.selects "TailorRegimentModel" ({ cls := "TailorRegimentModel", name := "later", desc := "(I)I" } : Jvm.MethodName) ({ cls := "TailorRegimentModel", name := "later", desc := "(I)I" } : Jvm.MethodName)) ∈ lw_all := lw_g (lw_at lw_m9 87 rfl) rfl
theorem q2121 : (Jvm.Cond.code ({ cls := "TailorRegimentModel", name := "later", desc := "(I)I" } : Jvm.MethodName) prog_20_method_114_code (2 : Nat) (Option.some Jvm.ClassFile.FieldType.int)) ∈ lw_all := lw_g (lw_at lw_m9 88 rfl) rfl
theorem q2122 : (Jvm.Cond.constant "TailorRegimentModel" (530 : Nat) (100000 : Int32)) ∈ lw_all := lw_g (lw_at lw_m9 89 rfl) rfl
theorem q2124 : (Jvm.Cond.instanceMethod ({ cls := "TailorRegimentModel", name := "growths", desc := "(I)I" } : Jvm.MethodName)) ∈ lw_all := lw_g (lw_at lw_m9 91 rfl) rfl
theorem q2125 : (Jvm.Cond.selects "TailorRegimentModel" ({ cls := "TailorRegimentModel", name := "growths", desc := "(I)I" } : Jvm.MethodName) ({ cls := "TailorRegimentModel", name := "growths", desc := "(I)I" } : Jvm.MethodName)) ∈ lw_all := lw_g (lw_at lw_m9 92 rfl) rfl
theorem q2126 : (Jvm.Cond.code ({ cls := "TailorRegimentModel", name := "growths", desc := "(I)I" } : Jvm.MethodName) prog_20_method_117_code (2 : Nat) (Option.some Jvm.ClassFile.FieldType.int)) ∈ lw_all := lw_g (lw_at lw_m9 93 rfl) rfl
theorem q2127 : (Jvm.Cond.methodLink "TailorRegimentModel" (534 : Nat) ({ cls := "TailorRegimentModel", name := "layGrowths", desc := "(I)I" } : Jvm.MethodName)) ∈ lw_all := lw_g (lw_at lw_m9 94 rfl) rfl
theorem q2128 : (Jvm.Cond.privateMethod ({ cls := "TailorRegimentModel", name := "layGrowths", desc := "(I)I" } : Jvm.MethodName)) ∈ lw_tbl := lw_at lw_m9 95 rfl
theorem q2129 : (Jvm.Cond.instanceMethod ({ cls := "TailorRegimentModel", name := "layGrowths", desc := "(I)I" } : Jvm.MethodName)) ∈ lw_all := lw_g (lw_at lw_m9 96 rfl) rfl
theorem q2130 : (Jvm.Cond.code ({ cls := "TailorRegimentModel", name := "layGrowths", desc := "(I)I" } : Jvm.MethodName) prog_20_method_116_code (5 : Nat) (Option.some Jvm.ClassFile.FieldType.int)) ∈ lw_all := lw_g (lw_at lw_m9 97 rfl) rfl
theorem q2131 : (Jvm.Cond.methodLink "TailorRegimentModel" (531 : Nat) ({ cls := "TailorRegimentModel", name := "fitsGrowth", desc := "(II)Z" } : Jvm.MethodName)) ∈ lw_all := lw_g (lw_at lw_m9 98 rfl) rfl
theorem q2132 : (Jvm.Cond.privateMethod ({ cls := "TailorRegimentModel", name := "fitsGrowth", desc := "(II)Z" } : Jvm.MethodName)) ∈ lw_tbl := lw_at lw_m9 99 rfl
theorem q2133 : (Jvm.Cond.instanceMethod ({ cls := "TailorRegimentModel", name := "fitsGrowth", desc := "(II)Z" } : Jvm.MethodName)) ∈ lw_all := lw_g (lw_at lw_m9 100 rfl) rfl
theorem q2134 : (Jvm.Cond.code ({ cls := "TailorRegimentModel", name := "fitsGrowth", desc := "(II)Z" } : Jvm.MethodName) prog_20_method_115_code (5 : Nat) (Option.some Jvm.ClassFile.FieldType.boolean)) ∈ lw_all := lw_g (lw_at lw_m9 101 rfl) rfl
theorem q2136 : (Jvm.Cond.instanceMethod ({ cls := "TailorRegimentModel", name := "sure", desc := "(II)I" } : Jvm.MethodName)) ∈ lw_all := lw_g (lw_at lw_m9 103 rfl) rfl
theorem q2137 : (Jvm.Cond.selects "TailorRegimentModel" ({ cls := "TailorRegimentModel", name := "sure", desc := "(II)I" } : Jvm.MethodName) ({ cls := "TailorRegimentModel", name := "sure", desc := "(II)I" } : Jvm.MethodName)) ∈ lw_all := lw_g (lw_at lw_m9 104 rfl) rfl
theorem q2138 : (Jvm.Cond.code ({ cls := "TailorRegimentModel", name := "sure", desc := "(II)I" } : Jvm.MethodName) prog_20_method_118_code (5 : Nat) (Option.some Jvm.ClassFile.FieldType.int)) ∈ lw_all := lw_g (lw_at lw_m9 105 rfl) rfl
theorem q2140 : (Jvm.Cond.instanceMethod ({ cls := "TailorRegimentModel", name := "ask", desc := "(II)I" } : Jvm.MethodName)) ∈ lw_all := lw_g (lw_at lw_m9 107 rfl) rfl
theorem q2141 : (Jvm.Cond.selects "TailorRegimentModel" ({ cls := "TailorRegimentModel", name := "ask", desc := "(II)I" } : Jvm.MethodName) ({ cls := "TailorRegimentModel", name := "ask", desc := "(II)I" } : Jvm.MethodName)) ∈ lw_all := lw_g (lw_at lw_m9 108 rfl) rfl
theorem q2142 : (Jvm.Cond.code ({ cls := "TailorRegimentModel", name := "ask", desc := "(II)I" } : Jvm.MethodName) prog_20_method_120_code (6 : Nat) (Option.some Jvm.ClassFile.FieldType.int)) ∈ lw_all := lw_g (lw_at lw_m9 109 rfl) rfl
theorem q2143 : (Jvm.Cond.methodLink "TailorRegimentModel" (537 : Nat) ({ cls := "TailorRegimentModel", name := "leftBy", desc := "(II)I" } : Jvm.MethodName)) ∈ lw_all := lw_g (lw_at lw_m9 110 rfl) rfl
theorem q2144 : (Jvm.Cond.privateMethod ({ cls := "TailorRegimentModel", name := "leftBy", desc := "(II)I" } : Jvm.MethodName)) ∈ lw_tbl := lw_at lw_m9 111 rfl
theorem q2145 : (Jvm.Cond.instanceMethod ({ cls := "TailorRegimentModel", name := "leftBy", desc := "(II)I" } : Jvm.MethodName)) ∈ lw_all := lw_g (lw_at lw_m9 112 rfl) rfl
theorem q2146 : (Jvm.Cond.code ({ cls := "TailorRegimentModel", name := "leftBy", desc := "(II)I" } : Jvm.MethodName) prog_20_method_119_code (5 : Nat) (Option.some Jvm.ClassFile.FieldType.int)) ∈ lw_all := lw_g (lw_at lw_m9 113 rfl) rfl
theorem q2148 : (Jvm.Cond.instanceMethod ({ cls := "TailorRegimentModel", name := "image", desc := "(I)I" } : Jvm.MethodName)) ∈ lw_all := lw_g (lw_at lw_m9 115 rfl) rfl
theorem q2149 : (Jvm.Cond.selects "TailorRegimentModel" ({ cls := "TailorRegimentModel", name := "image", desc := "(I)I" } : Jvm.MethodName) ({ cls := "TailorRegimentModel", name := "image", desc := "(I)I" } : Jvm.MethodName)) ∈ lw_all := lw_g (lw_at lw_m9 116 rfl) rfl
theorem q2150 : (Jvm.Cond.code ({ cls := "TailorRegimentModel", name := "image", desc := "(I)I" } : Jvm.MethodName) prog_20_method_122_code (3 : Nat) (Option.some Jvm.ClassFile.FieldType.int)) ∈ lw_all := lw_g (lw_at lw_m9 117 rfl) rfl
theorem q2151 : (Jvm.Cond.methodLink "TailorRegimentModel" (540 : Nat) ({ cls := "TailorRegimentModel", name := "isBox", desc := "(I)Z" } : Jvm.MethodName)) ∈ lw_all := lw_g (lw_at lw_m9 118 rfl) rfl
theorem q2152 : (Jvm.Cond.static ({ cls := "TailorRegimentModel", name := "isBox", desc := "(I)Z" } : Jvm.MethodName)) ∈ lw_all := lw_g (lw_at lw_m9 119 rfl) rfl
theorem q2153 : (Jvm.Cond.code ({ cls := "TailorRegimentModel", name := "isBox", desc := "(I)Z" } : Jvm.MethodName) prog_20_method_121_code (1 : Nat) (Option.some Jvm.ClassFile.FieldType.boolean)) ∈ lw_all := lw_g (lw_at lw_m9 120 rfl) rfl
theorem q2155 : (Jvm.Cond.instanceMethod ({ cls := "TailorRegimentModel", name := "back", desc := "(I)I" } : Jvm.MethodName)) ∈ lw_all := lw_g (lw_at lw_m9 122 rfl) rfl
theorem q2156 : (Jvm.Cond.selects "TailorRegimentModel" ({ cls := "TailorRegimentModel", name := "back", desc := "(I)I" } : Jvm.MethodName) ({ cls := "TailorRegimentModel", name := "back", desc := "(I)I" } : Jvm.MethodName)) ∈ lw_all := lw_g (lw_at lw_m9 123 rfl) rfl
theorem q2157 : (Jvm.Cond.code ({ cls := "TailorRegimentModel", name := "back", desc := "(I)I" } : Jvm.MethodName) prog_20_method_123_code (3 : Nat) (Option.some Jvm.ClassFile.FieldType.int)) ∈ lw_all := lw_g (lw_at lw_m9 124 rfl) rfl
theorem q2159 : (Jvm.Cond.instanceMethod ({ cls := "TailorRegimentModel", name := "about", desc := "(I)I" } : Jvm.MethodName)) ∈ lw_all := lw_g (lw_at lw_m9 126 rfl) rfl
theorem q2160 : (Jvm.Cond.selects "TailorRegimentModel" ({ cls := "TailorRegimentModel", name := "about", desc := "(I)I" } : Jvm.MethodName) ({ cls := "TailorRegimentModel", name := "about", desc := "(I)I" } : Jvm.MethodName)) ∈ lw_all := lw_g (lw_at lw_m9 127 rfl) rfl
theorem q2161 : (Jvm.Cond.code ({ cls := "TailorRegimentModel", name := "about", desc := "(I)I" } : Jvm.MethodName) prog_20_method_124_code (2 : Nat) (Option.some Jvm.ClassFile.FieldType.int)) ∈ lw_all := lw_g (lw_at lw_m9 128 rfl) rfl
theorem q2176 : (Jvm.Cond.castable "TailorRegimentModel" "java/lang/Object") ∈ lw_tbl := lw_at lw_m9 143 rfl
theorem q114 : (Jvm.Cond.initialized "TailorRegiment") ∈ lw_all := lw_g (lw_at lw_m1 1 rfl) rfl
theorem q150 : (Jvm.Cond.instantiable "TailorRegiment" (22 : Nat)) ∈ lw_all := lw_g (lw_at lw_m1 37 rfl) rfl
theorem q152 : (Jvm.Cond.instanceMethod ({ cls := "TailorRegiment", name := "<init>", desc := "()V" } : Jvm.MethodName)) ∈ lw_all := lw_g (lw_at lw_m1 39 rfl) rfl
theorem q153 : (Jvm.Cond.code ({ cls := "TailorRegiment", name := "<init>", desc := "()V" } : Jvm.MethodName) prog_1_method_4_code (1 : Nat) (Option.none : Option Jvm.ClassFile.FieldType)) ∈ lw_all := lw_g (lw_at lw_m1 40 rfl) rfl
theorem q154 : (Jvm.Cond.methodLink "TailorRegiment" (10 : Nat) ({ cls := "java/lang/Object", name := "<init>", desc := "()V" } : Jvm.MethodName)) ∈ lw_all := lw_g (lw_at lw_m1 41 rfl) rfl
theorem q157 : (Jvm.Cond.classLink "TailorRegiment" (16 : Nat) "TailorRegiment$Regiment") ∈ lw_all := lw_g (lw_at lw_m1 44 rfl) rfl
theorem q159 : (Jvm.Cond.methodLinkNest "TailorRegiment" (18 : Nat) ({ cls := "TailorRegiment$Regiment", name := "<init>", desc := "()V" } : Jvm.MethodName) "TailorRegiment") ∈ lw_tbl := lw_at lw_m1 46 rfl
theorem q194 : (Jvm.Cond.fieldLinkNest "TailorRegiment" (137 : Nat) "TailorRegiment$Regiment" "men" "Ljava/util/ArrayList;" "TailorRegiment") ∈ lw_tbl := lw_at lw_m1 81 rfl
theorem q198 : (Jvm.Cond.fieldLinkNest "TailorRegiment" (140 : Nat) "TailorRegiment$Regiment" "coats" "Ljava/util/ArrayList;" "TailorRegiment") ∈ lw_tbl := lw_at lw_m1 85 rfl
theorem q208 : (Jvm.Cond.fieldLinkNest "TailorRegiment" (393 : Nat) "TailorRegiment$Regiment" "units" "I" "TailorRegiment") ∈ lw_tbl := lw_at lw_m1 95 rfl
theorem q211 : (Jvm.Cond.fieldLinkNest "TailorRegiment" (387 : Nat) "TailorRegiment$Regiment" "easy" "I" "TailorRegiment") ∈ lw_tbl := lw_at lw_m1 98 rfl
theorem q214 : (Jvm.Cond.fieldLinkNest "TailorRegiment" (306 : Nat) "TailorRegiment$Regiment" "bolt" "I" "TailorRegiment") ∈ lw_tbl := lw_at lw_m1 101 rfl
theorem q217 : (Jvm.Cond.fieldLinkNest "TailorRegiment" (315 : Nat) "TailorRegiment$Regiment" "like" "I" "TailorRegiment") ∈ lw_tbl := lw_at lw_m1 104 rfl
theorem q220 : (Jvm.Cond.fieldLinkNest "TailorRegiment" (337 : Nat) "TailorRegiment$Regiment" "rain" "I" "TailorRegiment") ∈ lw_tbl := lw_at lw_m1 107 rfl
theorem q256 : (Jvm.Cond.classLink "TailorRegiment" (25 : Nat) "TailorRegiment$State") ∈ lw_all := lw_g (lw_at lw_m1 143 rfl) rfl
theorem q258 : (Jvm.Cond.methodLinkNest "TailorRegiment" (27 : Nat) ({ cls := "TailorRegiment$State", name := "<init>", desc := "()V" } : Jvm.MethodName) "TailorRegiment") ∈ lw_tbl := lw_at lw_m1 145 rfl
theorem q264 : (Jvm.Cond.fieldLinkNest "TailorRegiment" (192 : Nat) "TailorRegiment$State" "girth" "[I" "TailorRegiment") ∈ lw_tbl := lw_at lw_m1 151 rfl
theorem q266 : (Jvm.Cond.fieldLinkNest "TailorRegiment" (198 : Nat) "TailorRegiment$State" "wears" "[I" "TailorRegiment") ∈ lw_tbl := lw_at lw_m1 153 rfl
theorem q269 : (Jvm.Cond.fieldLinkNest "TailorRegiment" (208 : Nat) "TailorRegiment$State" "tall" "[I" "TailorRegiment") ∈ lw_tbl := lw_at lw_m1 156 rfl
theorem q272 : (Jvm.Cond.fieldLinkNest "TailorRegiment" (210 : Nat) "TailorRegiment$State" "wide" "[I" "TailorRegiment") ∈ lw_tbl := lw_at lw_m1 159 rfl
theorem q274 : (Jvm.Cond.fieldLinkNest "TailorRegiment" (213 : Nat) "TailorRegiment$State" "seam" "[I" "TailorRegiment") ∈ lw_tbl := lw_at lw_m1 161 rfl
theorem q277 : (Jvm.Cond.fieldLinkNest "TailorRegiment" (216 : Nat) "TailorRegiment$State" "worn" "[I" "TailorRegiment") ∈ lw_tbl := lw_at lw_m1 164 rfl
theorem q279 : (Jvm.Cond.fieldLinkNest "TailorRegiment" (219 : Nat) "TailorRegiment$State" "turned" "I" "TailorRegiment") ∈ lw_tbl := lw_at lw_m1 166 rfl
theorem q282 : (Jvm.Cond.fieldLinkNest "TailorRegiment" (229 : Nat) "TailorRegiment$State" "day" "I" "TailorRegiment") ∈ lw_tbl := lw_at lw_m1 169 rfl
theorem q284 : (Jvm.Cond.fieldLinkNest "TailorRegiment" (390 : Nat) "TailorRegiment$State" "seed" "I" "TailorRegiment") ∈ lw_tbl := lw_at lw_m1 171 rfl
theorem q304 : (Jvm.Cond.classLink "TailorRegiment" (39 : Nat) "TailorRegiment$Wrong") ∈ lw_all := lw_g (lw_at lw_m1 191 rfl) rfl
theorem q341 : (Jvm.Cond.methodLinkNest "TailorRegiment" (41 : Nat) ({ cls := "TailorRegiment$Wrong", name := "<init>", desc := "()V" } : Jvm.MethodName) "TailorRegiment") ∈ lw_tbl := lw_at lw_m1 228 rfl
theorem q349 : (Jvm.Cond.fieldLinkNest "TailorRegiment" (170 : Nat) "TailorRegiment$Wrong" "kind" "I" "TailorRegiment") ∈ lw_tbl := lw_at lw_m1 236 rfl
theorem q351 : (Jvm.Cond.fieldLinkNest "TailorRegiment" (173 : Nat) "TailorRegiment$Wrong" "place" "I" "TailorRegiment") ∈ lw_tbl := lw_at lw_m1 238 rfl
theorem q369 : (Jvm.Cond.classLink "TailorRegiment" (50 : Nat) "java/util/ArrayList") ∈ lw_all := lw_g (lw_at lw_m2 16 rfl) rfl
theorem q370 : (Jvm.Cond.methodLink "TailorRegiment" (52 : Nat) ({ cls := "java/util/ArrayList", name := "<init>", desc := "()V" } : Jvm.MethodName)) ∈ lw_all := lw_g (lw_at lw_m2 17 rfl) rfl
theorem q371 : (Jvm.Cond.classLink "TailorRegiment" (67 : Nat) "TailorRegiment$Front") ∈ lw_all := lw_g (lw_at lw_m2 18 rfl) rfl
theorem q373 : (Jvm.Cond.methodLinkNest "TailorRegiment" (69 : Nat) ({ cls := "TailorRegiment$Front", name := "<init>", desc := "(LTailorRegiment;)V" } : Jvm.MethodName) "TailorRegiment") ∈ lw_tbl := lw_at lw_m2 20 rfl
theorem q381 : (Jvm.Cond.fieldLinkNest "TailorRegiment" (294 : Nat) "TailorRegiment$Front" "wide" "I" "TailorRegiment") ∈ lw_tbl := lw_at lw_m2 28 rfl
theorem q394 : (Jvm.Cond.classLink "TailorRegiment" (76 : Nat) "TailorRegiment$Wing") ∈ lw_all := lw_g (lw_at lw_m2 41 rfl) rfl
theorem q396 : (Jvm.Cond.methodLinkNest "TailorRegiment" (78 : Nat) ({ cls := "TailorRegiment$Wing", name := "<init>", desc := "(LTailorRegiment;)V" } : Jvm.MethodName) "TailorRegiment") ∈ lw_tbl := lw_at lw_m2 43 rfl
theorem q406 : (Jvm.Cond.classLink "TailorRegiment" (93 : Nat) "TailorRegiment$Kept") ∈ lw_all := lw_g (lw_at lw_m2 53 rfl) rfl
theorem q409 : (Jvm.Cond.methodLink "TailorRegiment" (95 : Nat) ({ cls := "TailorRegiment$Kept", name := "<init>", desc := "(LTailorRegiment$State;)V" } : Jvm.MethodName)) ∈ lw_all := lw_g (lw_at lw_m2 56 rfl) rfl
theorem q414 : (Jvm.Cond.fieldLinkNest "TailorRegiment" (115 : Nat) "TailorRegiment$Kept" "state" "LTailorRegiment$State;" "TailorRegiment") ∈ lw_tbl := lw_at lw_m2 61 rfl
theorem q419 : (Jvm.Cond.methodLink "TailorRegiment" (102 : Nat) ({ cls := "TailorRegiment", name := "start", desc := "()V" } : Jvm.MethodName)) ∈ lw_all := lw_g (lw_at lw_m2 66 rfl) rfl
theorem q420 : (Jvm.Cond.privateMethod ({ cls := "TailorRegiment", name := "start", desc := "()V" } : Jvm.MethodName)) ∈ lw_tbl := lw_at lw_m2 67 rfl
theorem q421 : (Jvm.Cond.instanceMethod ({ cls := "TailorRegiment", name := "start", desc := "()V" } : Jvm.MethodName)) ∈ lw_all := lw_g (lw_at lw_m2 68 rfl) rfl
theorem q422 : (Jvm.Cond.code ({ cls := "TailorRegiment", name := "start", desc := "()V" } : Jvm.MethodName) prog_1_method_5_code (2 : Nat) (Option.none : Option Jvm.ClassFile.FieldType)) ∈ lw_all := lw_g (lw_at lw_m2 69 rfl) rfl
theorem q423 : (Jvm.Cond.methodLink "TailorRegiment" (105 : Nat) ({ cls := "TailorRegiment$State", name := "begin", desc := "(LTailorRegiment$Regiment;)V" } : Jvm.MethodName)) ∈ lw_all := lw_g (lw_at lw_m2 70 rfl) rfl
theorem q447 : (Jvm.Cond.methodLink "TailorRegiment" (109 : Nat) ({ cls := "java/util/ArrayList", name := "clear", desc := "()V" } : Jvm.MethodName)) ∈ lw_all := lw_g (lw_at lw_m2 94 rfl) rfl
theorem q451 : (Jvm.Cond.fieldLink "TailorRegiment" (19 : Nat) "TailorRegiment" "regiment" "LTailorRegiment$Regiment;") ∈ lw_all := lw_g (lw_at lw_m2 98 rfl) rfl
theorem q453 : (Jvm.Cond.fieldLink "TailorRegiment" (28 : Nat) "TailorRegiment" "now" "LTailorRegiment$State;") ∈ lw_all := lw_g (lw_at lw_m2 100 rfl) rfl
theorem q454 : (Jvm.Cond.fieldLink "TailorRegiment" (32 : Nat) "TailorRegiment" "then" "LTailorRegiment$State;") ∈ lw_all := lw_g (lw_at lw_m2 101 rfl) rfl
theorem q455 : (Jvm.Cond.fieldLink "TailorRegiment" (35 : Nat) "TailorRegiment" "tape" "[B") ∈ lw_all := lw_g (lw_at lw_m2 102 rfl) rfl
theorem q456 : (Jvm.Cond.fieldLink "TailorRegiment" (42 : Nat) "TailorRegiment" "fault" "LTailorRegiment$Wrong;") ∈ lw_all := lw_g (lw_at lw_m2 103 rfl) rfl
theorem q457 : (Jvm.Cond.fieldLink "TailorRegiment" (151 : Nat) "TailorRegiment" "taped" "I") ∈ lw_all := lw_g (lw_at lw_m2 104 rfl) rfl
theorem q458 : (Jvm.Cond.fieldLink "TailorRegiment" (342 : Nat) "TailorRegiment" "time" "I") ∈ lw_all := lw_g (lw_at lw_m2 105 rfl) rfl
theorem q459 : (Jvm.Cond.fieldLink "TailorRegiment" (158 : Nat) "TailorRegiment" "faultKind" "I") ∈ lw_all := lw_g (lw_at lw_m2 106 rfl) rfl
theorem q460 : (Jvm.Cond.fieldLink "TailorRegiment" (46 : Nat) "TailorRegiment" "faultPlace" "I") ∈ lw_all := lw_g (lw_at lw_m2 107 rfl) rfl
theorem q461 : (Jvm.Cond.fieldLink "TailorRegiment" (53 : Nat) "TailorRegiment" "acts" "Ljava/util/ArrayList;") ∈ lw_all := lw_g (lw_at lw_m2 108 rfl) rfl
theorem q462 : (Jvm.Cond.fieldLink "TailorRegiment" (57 : Nat) "TailorRegiment" "undone" "Ljava/util/ArrayList;") ∈ lw_all := lw_g (lw_at lw_m2 109 rfl) rfl
theorem q463 : (Jvm.Cond.fieldLink "TailorRegiment" (60 : Nat) "TailorRegiment" "laidRow" "[I") ∈ lw_all := lw_g (lw_at lw_m2 110 rfl) rfl
theorem q464 : (Jvm.Cond.fieldLink "TailorRegiment" (64 : Nat) "TailorRegiment" "trial" "[I") ∈ lw_all := lw_g (lw_at lw_m2 111 rfl) rfl
theorem q465 : (Jvm.Cond.fieldLink "TailorRegiment" (112 : Nat) "TailorRegiment" "laid" "I") ∈ lw_all := lw_g (lw_at lw_m2 112 rfl) rfl
theorem q466 : (Jvm.Cond.fieldLink "TailorRegiment" (263 : Nat) "TailorRegiment" "most" "I") ∈ lw_all := lw_g (lw_at lw_m2 113 rfl) rfl
theorem q467 : (Jvm.Cond.fieldLink "TailorRegiment" (266 : Nat) "TailorRegiment" "least" "I") ∈ lw_all := lw_g (lw_at lw_m2 114 rfl) rfl
theorem q468 : (Jvm.Cond.fieldLink "TailorRegiment" (72 : Nat) "TailorRegiment" "fronts" "LTailorRegiment$Front;") ∈ lw_all := lw_g (lw_at lw_m2 115 rfl) rfl
theorem q469 : (Jvm.Cond.fieldLink "TailorRegiment" (79 : Nat) "TailorRegiment" "wing" "LTailorRegiment$Wing;") ∈ lw_all := lw_g (lw_at lw_m2 116 rfl) rfl
theorem q470 : (Jvm.Cond.fieldLink "TailorRegiment" (83 : Nat) "TailorRegiment" "lengthOf" "[I") ∈ lw_all := lw_g (lw_at lw_m2 117 rfl) rfl
theorem q471 : (Jvm.Cond.fieldLink "TailorRegiment" (86 : Nat) "TailorRegiment" "sights" "Ljava/util/ArrayList;") ∈ lw_all := lw_g (lw_at lw_m2 118 rfl) rfl
theorem q472 : (Jvm.Cond.fieldLink "TailorRegiment" (89 : Nat) "TailorRegiment" "fitBy" "[Z") ∈ lw_all := lw_g (lw_at lw_m2 119 rfl) rfl
theorem q473 : (Jvm.Cond.fieldLink "TailorRegiment" (98 : Nat) "TailorRegiment" "boxes" "[LTailorRegiment$Kept;") ∈ lw_all := lw_g (lw_at lw_m2 120 rfl) rfl
theorem q474 : (Jvm.Cond.lays "TailorRegiment" "TailorRegiment" "regiment" "LTailorRegiment$Regiment;") ∈ lw_all := lw_g (lw_at lw_m2 121 rfl) rfl
theorem q475 : (Jvm.Cond.soleField "TailorRegiment" "regiment") ∈ lw_all := lw_g (lw_at lw_m2 122 rfl) rfl
theorem q476 : (Jvm.Cond.laysFinal "TailorRegiment" "TailorRegiment" "now" "LTailorRegiment$State;") ∈ lw_all := lw_g (lw_at lw_m2 123 rfl) rfl
theorem q477 : (Jvm.Cond.soleField "TailorRegiment" "now") ∈ lw_all := lw_g (lw_at lw_m2 124 rfl) rfl
theorem q478 : (Jvm.Cond.laysFinal "TailorRegiment" "TailorRegiment" "then" "LTailorRegiment$State;") ∈ lw_all := lw_g (lw_at lw_m2 125 rfl) rfl
theorem q479 : (Jvm.Cond.soleField "TailorRegiment" "then") ∈ lw_all := lw_g (lw_at lw_m2 126 rfl) rfl
theorem q480 : (Jvm.Cond.laysFinal "TailorRegiment" "TailorRegiment" "tape" "[B") ∈ lw_all := lw_g (lw_at lw_m2 127 rfl) rfl
theorem q481 : (Jvm.Cond.soleField "TailorRegiment" "tape") ∈ lw_all := lw_g (lw_at lw_m2 128 rfl) rfl
theorem q482 : (Jvm.Cond.laysFinal "TailorRegiment" "TailorRegiment" "fault" "LTailorRegiment$Wrong;") ∈ lw_all := lw_g (lw_at lw_m2 129 rfl) rfl
theorem q483 : (Jvm.Cond.soleField "TailorRegiment" "fault") ∈ lw_all := lw_g (lw_at lw_m2 130 rfl) rfl
theorem q484 : (Jvm.Cond.lays "TailorRegiment" "TailorRegiment" "taped" "I") ∈ lw_all := lw_g (lw_at lw_m2 131 rfl) rfl
theorem q485 : (Jvm.Cond.soleField "TailorRegiment" "taped") ∈ lw_all := lw_g (lw_at lw_m2 132 rfl) rfl
theorem q486 : (Jvm.Cond.lays "TailorRegiment" "TailorRegiment" "time" "I") ∈ lw_all := lw_g (lw_at lw_m2 133 rfl) rfl
theorem q487 : (Jvm.Cond.soleField "TailorRegiment" "time") ∈ lw_all := lw_g (lw_at lw_m2 134 rfl) rfl
theorem q488 : (Jvm.Cond.lays "TailorRegiment" "TailorRegiment" "faultKind" "I") ∈ lw_all := lw_g (lw_at lw_m2 135 rfl) rfl
theorem q489 : (Jvm.Cond.soleField "TailorRegiment" "faultKind") ∈ lw_all := lw_g (lw_at lw_m2 136 rfl) rfl
theorem q490 : (Jvm.Cond.lays "TailorRegiment" "TailorRegiment" "faultPlace" "I") ∈ lw_all := lw_g (lw_at lw_m2 137 rfl) rfl
theorem q491 : (Jvm.Cond.soleField "TailorRegiment" "faultPlace") ∈ lw_all := lw_g (lw_at lw_m2 138 rfl) rfl
theorem q492 : (Jvm.Cond.laysFinal "TailorRegiment" "TailorRegiment" "acts" "Ljava/util/ArrayList;") ∈ lw_all := lw_g (lw_at lw_m2 139 rfl) rfl
theorem q493 : (Jvm.Cond.soleField "TailorRegiment" "acts") ∈ lw_all := lw_g (lw_at lw_m2 140 rfl) rfl
theorem q494 : (Jvm.Cond.laysFinal "TailorRegiment" "TailorRegiment" "undone" "Ljava/util/ArrayList;") ∈ lw_all := lw_g (lw_at lw_m2 141 rfl) rfl
theorem q495 : (Jvm.Cond.soleField "TailorRegiment" "undone") ∈ lw_all := lw_g (lw_at lw_m2 142 rfl) rfl
theorem q496 : (Jvm.Cond.laysFinal "TailorRegiment" "TailorRegiment" "laidRow" "[I") ∈ lw_all := lw_g (lw_at lw_m2 143 rfl) rfl
theorem q497 : (Jvm.Cond.soleField "TailorRegiment" "laidRow") ∈ lw_all := lw_g (lw_at lw_m2 144 rfl) rfl
theorem q498 : (Jvm.Cond.laysFinal "TailorRegiment" "TailorRegiment" "trial" "[I") ∈ lw_all := lw_g (lw_at lw_m2 145 rfl) rfl
theorem q499 : (Jvm.Cond.soleField "TailorRegiment" "trial") ∈ lw_all := lw_g (lw_at lw_m2 146 rfl) rfl
theorem q500 : (Jvm.Cond.lays "TailorRegiment" "TailorRegiment" "laid" "I") ∈ lw_all := lw_g (lw_at lw_m2 147 rfl) rfl
theorem q501 : (Jvm.Cond.soleField "TailorRegiment" "laid") ∈ lw_all := lw_g (lw_at lw_m2 148 rfl) rfl
theorem q502 : (Jvm.Cond.lays "TailorRegiment" "TailorRegiment" "most" "I") ∈ lw_all := lw_g (lw_at lw_m2 149 rfl) rfl
theorem q503 : (Jvm.Cond.soleField "TailorRegiment" "most") ∈ lw_all := lw_g (lw_at lw_m2 150 rfl) rfl
theorem q504 : (Jvm.Cond.lays "TailorRegiment" "TailorRegiment" "least" "I") ∈ lw_all := lw_g (lw_at lw_m2 151 rfl) rfl
theorem q505 : (Jvm.Cond.soleField "TailorRegiment" "least") ∈ lw_all := lw_g (lw_at lw_m2 152 rfl) rfl
theorem q506 : (Jvm.Cond.laysFinal "TailorRegiment" "TailorRegiment" "fronts" "LTailorRegiment$Front;") ∈ lw_all := lw_g (lw_at lw_m2 153 rfl) rfl
theorem q507 : (Jvm.Cond.soleField "TailorRegiment" "fronts") ∈ lw_all := lw_g (lw_at lw_m2 154 rfl) rfl
theorem q508 : (Jvm.Cond.laysFinal "TailorRegiment" "TailorRegiment" "wing" "LTailorRegiment$Wing;") ∈ lw_all := lw_g (lw_at lw_m2 155 rfl) rfl
theorem q509 : (Jvm.Cond.soleField "TailorRegiment" "wing") ∈ lw_all := lw_g (lw_at lw_m2 156 rfl) rfl
theorem q510 : (Jvm.Cond.laysFinal "TailorRegiment" "TailorRegiment" "lengthOf" "[I") ∈ lw_all := lw_g (lw_at lw_m2 157 rfl) rfl
theorem q511 : (Jvm.Cond.soleField "TailorRegiment" "lengthOf") ∈ lw_all := lw_g (lw_at lw_m2 158 rfl) rfl
theorem q512 : (Jvm.Cond.laysFinal "TailorRegiment" "TailorRegiment" "sights" "Ljava/util/ArrayList;") ∈ lw_all := lw_g (lw_at lw_m2 159 rfl) rfl
theorem q513 : (Jvm.Cond.soleField "TailorRegiment" "sights") ∈ lw_all := lw_g (lw_at lw_m2 160 rfl) rfl
theorem q514 : (Jvm.Cond.laysFinal "TailorRegiment" "TailorRegiment" "fitBy" "[Z") ∈ lw_all := lw_g (lw_at lw_m2 161 rfl) rfl
theorem q515 : (Jvm.Cond.soleField "TailorRegiment" "fitBy") ∈ lw_all := lw_g (lw_at lw_m2 162 rfl) rfl
theorem q516 : (Jvm.Cond.laysFinal "TailorRegiment" "TailorRegiment" "boxes" "[LTailorRegiment$Kept;") ∈ lw_all := lw_g (lw_at lw_m2 163 rfl) rfl
theorem q517 : (Jvm.Cond.soleField "TailorRegiment" "boxes") ∈ lw_all := lw_g (lw_at lw_m2 164 rfl) rfl
theorem q518 : (Jvm.Cond.superclass "TailorRegiment" "java/lang/Object") ∈ lw_all := lw_g (lw_at lw_m2 165 rfl) rfl
theorem q520 : (Jvm.Cond.instanceMethod ({ cls := "TailorRegiment", name := "feed", desc := "(IIIII)I" } : Jvm.MethodName)) ∈ lw_all := lw_g (lw_at lw_m2 167 rfl) rfl
theorem q521 : (Jvm.Cond.selects "TailorRegiment" ({ cls := "TailorRegiment", name := "feed", desc := "(IIIII)I" } : Jvm.MethodName) ({ cls := "TailorRegiment", name := "feed", desc := "(IIIII)I" } : Jvm.MethodName)) ∈ lw_all := lw_g (lw_at lw_m2 168 rfl) rfl
theorem q522 : (Jvm.Cond.code ({ cls := "TailorRegiment", name := "feed", desc := "(IIIII)I" } : Jvm.MethodName) prog_1_method_13_code (6 : Nat) (Option.some Jvm.ClassFile.FieldType.int)) ∈ lw_all := lw_g (lw_at lw_m2 169 rfl) rfl
theorem q523 : (Jvm.Cond.methodLink "TailorRegiment" (154 : Nat) ({ cls := "TailorRegiment", name := "bytes", desc := "(I)V" } : Jvm.MethodName)) ∈ lw_all := lw_g (lw_at lw_m2 170 rfl) rfl
theorem q524 : (Jvm.Cond.privateMethod ({ cls := "TailorRegiment", name := "bytes", desc := "(I)V" } : Jvm.MethodName)) ∈ lw_tbl := lw_at lw_m2 171 rfl
theorem q525 : (Jvm.Cond.instanceMethod ({ cls := "TailorRegiment", name := "bytes", desc := "(I)V" } : Jvm.MethodName)) ∈ lw_all := lw_g (lw_at lw_m2 172 rfl) rfl
theorem q526 : (Jvm.Cond.code ({ cls := "TailorRegiment", name := "bytes", desc := "(I)V" } : Jvm.MethodName) prog_1_method_14_code (3 : Nat) (Option.none : Option Jvm.ClassFile.FieldType)) ∈ lw_all := lw_g (lw_at lw_m2 173 rfl) rfl
theorem q528 : (Jvm.Cond.instanceMethod ({ cls := "TailorRegiment", name := "end", desc := "(I)I" } : Jvm.MethodName)) ∈ lw_all := lw_g (lw_at lw_m2 175 rfl) rfl
theorem q529 : (Jvm.Cond.selects "TailorRegiment" ({ cls := "TailorRegiment", name := "end", desc := "(I)I" } : Jvm.MethodName) ({ cls := "TailorRegiment", name := "end", desc := "(I)I" } : Jvm.MethodName)) ∈ lw_all := lw_g (lw_at lw_m2 176 rfl) rfl
theorem q530 : (Jvm.Cond.code ({ cls := "TailorRegiment", name := "end", desc := "(I)I" } : Jvm.MethodName) prog_1_method_15_code (2 : Nat) (Option.some Jvm.ClassFile.FieldType.int)) ∈ lw_all := lw_g (lw_at lw_m2 177 rfl) rfl
theorem q532 : (Jvm.Cond.instanceMethod ({ cls := "TailorRegiment", name := "regiment", desc := "()I" } : Jvm.MethodName)) ∈ lw_all := lw_g (lw_at lw_m2 179 rfl) rfl
theorem q533 : (Jvm.Cond.selects "TailorRegiment" ({ cls := "TailorRegiment", name := "regiment", desc := "()I" } : Jvm.MethodName) ({ cls := "TailorRegiment", name := "regiment", desc := "()I" } : Jvm.MethodName)) ∈ lw_all := lw_g (lw_at lw_m2 180 rfl) rfl
theorem q534 : (Jvm.Cond.codeWith ({ cls := "TailorRegiment", name := "regiment", desc := "()I" } : Jvm.MethodName) prog_1_method_16_code (3 : Nat) (Option.some Jvm.ClassFile.FieldType.int) [((20 : Nat), (43 : Nat), (46 : Nat), (39 : Nat))]) ∈ lw_all := lw_g (lw_at lw_m2 181 rfl) rfl
theorem q535 : (Jvm.Cond.classLink "TailorRegiment" (161 : Nat) "TailorRegiment$Reader") ∈ lw_all := lw_g (lw_at lw_m2 182 rfl) rfl
theorem q537 : (Jvm.Cond.methodLink "TailorRegiment" (163 : Nat) ({ cls := "TailorRegiment$Reader", name := "<init>", desc := "([BILTailorRegiment$Wrong;)V" } : Jvm.MethodName)) ∈ lw_all := lw_g (lw_at lw_m2 184 rfl) rfl
theorem q577 : (Jvm.Cond.methodLink "TailorRegiment" (166 : Nat) ({ cls := "TailorRegiment$Reader", name := "read", desc := "()LTailorRegiment$Regiment;" } : Jvm.MethodName)) ∈ lw_all := lw_g (lw_at lw_m2 224 rfl) rfl
theorem q756 : (Jvm.Cond.fieldLinkNest "TailorRegiment" (195 : Nat) "TailorRegiment$Man" "grows" "I" "TailorRegiment") ∈ lw_tbl := lw_at lw_m3 163 rfl
theorem q765 : (Jvm.Cond.fieldLink "TailorRegiment" (189 : Nat) "TailorRegiment$Man" "tall" "I") ∈ lw_all := lw_g (lw_at lw_m3 172 rfl) rfl
theorem q835 : (Jvm.Cond.selects "TailorRegiment" ({ cls := "java/lang/Object", name := "getClass", desc := "()Ljava/lang/Class;" } : Jvm.MethodName) ({ cls := "java/lang/Object", name := "getClass", desc := "()Ljava/lang/Class;" } : Jvm.MethodName)) ∈ lw_all := lw_g (lw_at lw_m4 2 rfl) rfl
theorem q982 : (Jvm.Cond.methodLink "TailorRegiment" (143 : Nat) ({ cls := "TailorRegiment", name := "men", desc := "()I" } : Jvm.MethodName)) ∈ lw_all := lw_g (lw_at lw_m4 149 rfl) rfl
theorem q983 : (Jvm.Cond.privateMethod ({ cls := "TailorRegiment", name := "men", desc := "()I" } : Jvm.MethodName)) ∈ lw_tbl := lw_at lw_m4 150 rfl
theorem q984 : (Jvm.Cond.instanceMethod ({ cls := "TailorRegiment", name := "men", desc := "()I" } : Jvm.MethodName)) ∈ lw_all := lw_g (lw_at lw_m4 151 rfl) rfl
theorem q985 : (Jvm.Cond.code ({ cls := "TailorRegiment", name := "men", desc := "()I" } : Jvm.MethodName) prog_1_method_9_code (1 : Nat) (Option.some Jvm.ClassFile.FieldType.int)) ∈ lw_all := lw_g (lw_at lw_m4 152 rfl) rfl
theorem q986 : (Jvm.Cond.methodLink "TailorRegiment" (121 : Nat) ({ cls := "java/util/ArrayList", name := "size", desc := "()I" } : Jvm.MethodName)) ∈ lw_all := lw_g (lw_at lw_m4 153 rfl) rfl
theorem q988 : (Jvm.Cond.instanceMethod ({ cls := "TailorRegiment", name := "fault", desc := "(I)I" } : Jvm.MethodName)) ∈ lw_all := lw_g (lw_at lw_m4 155 rfl) rfl
theorem q989 : (Jvm.Cond.selects "TailorRegiment" ({ cls := "TailorRegiment", name := "fault", desc := "(I)I" } : Jvm.MethodName) ({ cls := "TailorRegiment", name := "fault", desc := "(I)I" } : Jvm.MethodName)) ∈ lw_all := lw_g (lw_at lw_m4 156 rfl) rfl
theorem q990 : (Jvm.Cond.code ({ cls := "TailorRegiment", name := "fault", desc := "(I)I" } : Jvm.MethodName) prog_1_method_17_code (2 : Nat) (Option.some Jvm.ClassFile.FieldType.int)) ∈ lw_all := lw_g (lw_at lw_m4 157 rfl) rfl
theorem q992 : (Jvm.Cond.instanceMethod ({ cls := "TailorRegiment", name := "man", desc := "(II)I" } : Jvm.MethodName)) ∈ lw_all := lw_g (lw_at lw_m4 159 rfl) rfl
theorem q993 : (Jvm.Cond.selects "TailorRegiment" ({ cls := "TailorRegiment", name := "man", desc := "(II)I" } : Jvm.MethodName) ({ cls := "TailorRegiment", name := "man", desc := "(II)I" } : Jvm.MethodName)) ∈ lw_all := lw_g (lw_at lw_m4 160 rfl) rfl
theorem q994 : (Jvm.Cond.code ({ cls := "TailorRegiment", name := "man", desc := "(II)I" } : Jvm.MethodName) prog_1_method_19_code (3 : Nat) (Option.some Jvm.ClassFile.FieldType.int)) ∈ lw_all := lw_g (lw_at lw_m4 161 rfl) rfl
theorem q995 : (Jvm.Cond.methodLink "TailorRegiment" (180 : Nat) ({ cls := "TailorRegiment", name := "isMan", desc := "(I)Z" } : Jvm.MethodName)) ∈ lw_all := lw_g (lw_at lw_m4 162 rfl) rfl
theorem q996 : (Jvm.Cond.privateMethod ({ cls := "TailorRegiment", name := "isMan", desc := "(I)Z" } : Jvm.MethodName)) ∈ lw_tbl := lw_at lw_m4 163 rfl
theorem q997 : (Jvm.Cond.instanceMethod ({ cls := "TailorRegiment", name := "isMan", desc := "(I)Z" } : Jvm.MethodName)) ∈ lw_all := lw_g (lw_at lw_m4 164 rfl) rfl
theorem q998 : (Jvm.Cond.code ({ cls := "TailorRegiment", name := "isMan", desc := "(I)Z" } : Jvm.MethodName) prog_1_method_11_code (2 : Nat) (Option.some Jvm.ClassFile.FieldType.boolean)) ∈ lw_all := lw_g (lw_at lw_m4 165 rfl) rfl
theorem q999 : (Jvm.Cond.methodLink "TailorRegiment" (145 : Nat) ({ cls := "TailorRegiment", name := "isIn", desc := "(III)Z" } : Jvm.MethodName)) ∈ lw_all := lw_g (lw_at lw_m4 166 rfl) rfl
theorem q1000 : (Jvm.Cond.static ({ cls := "TailorRegiment", name := "isIn", desc := "(III)Z" } : Jvm.MethodName)) ∈ lw_all := lw_g (lw_at lw_m4 167 rfl) rfl
theorem q1001 : (Jvm.Cond.code ({ cls := "TailorRegiment", name := "isIn", desc := "(III)Z" } : Jvm.MethodName) prog_1_method_1_code (3 : Nat) (Option.some Jvm.ClassFile.FieldType.boolean)) ∈ lw_all := lw_g (lw_at lw_m4 168 rfl) rfl
theorem q1002 : (Jvm.Cond.methodLink "TailorRegiment" (184 : Nat) ({ cls := "java/util/ArrayList", name := "get", desc := "(I)Ljava/lang/Object;" } : Jvm.MethodName)) ∈ lw_all := lw_g (lw_at lw_m4 169 rfl) rfl
theorem q1003 : (Jvm.Cond.classLink "TailorRegiment" (187 : Nat) "TailorRegiment$Man") ∈ lw_all := lw_g (lw_at lw_m4 170 rfl) rfl
theorem q1004 : (Jvm.Cond.methodLink "TailorRegiment" (201 : Nat) ({ cls := "TailorRegiment", name := "fitting", desc := "(I)I" } : Jvm.MethodName)) ∈ lw_all := lw_g (lw_at lw_m4 171 rfl) rfl
theorem q1005 : (Jvm.Cond.privateMethod ({ cls := "TailorRegiment", name := "fitting", desc := "(I)I" } : Jvm.MethodName)) ∈ lw_tbl := lw_at lw_m4 172 rfl
theorem q1006 : (Jvm.Cond.instanceMethod ({ cls := "TailorRegiment", name := "fitting", desc := "(I)I" } : Jvm.MethodName)) ∈ lw_all := lw_g (lw_at lw_m4 173 rfl) rfl
theorem q1007 : (Jvm.Cond.code ({ cls := "TailorRegiment", name := "fitting", desc := "(I)I" } : Jvm.MethodName) prog_1_method_18_code (4 : Nat) (Option.some Jvm.ClassFile.FieldType.int)) ∈ lw_all := lw_g (lw_at lw_m4 174 rfl) rfl
theorem q1008 : (Jvm.Cond.methodLink "TailorRegiment" (149 : Nat) ({ cls := "TailorRegiment", name := "coats", desc := "()I" } : Jvm.MethodName)) ∈ lw_all := lw_g (lw_at lw_m4 175 rfl) rfl
theorem q1009 : (Jvm.Cond.privateMethod ({ cls := "TailorRegiment", name := "coats", desc := "()I" } : Jvm.MethodName)) ∈ lw_tbl := lw_at lw_m4 176 rfl
theorem q1010 : (Jvm.Cond.instanceMethod ({ cls := "TailorRegiment", name := "coats", desc := "()I" } : Jvm.MethodName)) ∈ lw_all := lw_g (lw_at lw_m4 177 rfl) rfl
theorem q1011 : (Jvm.Cond.code ({ cls := "TailorRegiment", name := "coats", desc := "()I" } : Jvm.MethodName) prog_1_method_10_code (1 : Nat) (Option.some Jvm.ClassFile.FieldType.int)) ∈ lw_all := lw_g (lw_at lw_m4 178 rfl) rfl
theorem q1012 : (Jvm.Cond.methodLink "TailorRegiment" (176 : Nat) ({ cls := "TailorRegiment$Regiment", name := "fits", desc := "(LTailorRegiment$State;II)Z" } : Jvm.MethodName)) ∈ lw_all := lw_g (lw_at lw_m4 179 rfl) rfl
theorem q1045 : (Jvm.Cond.static ({ cls := "TailorRegiment", name := "within", desc := "(II)I" } : Jvm.MethodName)) ∈ lw_all := lw_g (lw_at lw_m4 212 rfl) rfl
theorem q1046 : (Jvm.Cond.code ({ cls := "TailorRegiment", name := "within", desc := "(II)I" } : Jvm.MethodName) prog_1_method_2_code (2 : Nat) (Option.some Jvm.ClassFile.FieldType.int)) ∈ lw_all := lw_g (lw_at lw_m4 213 rfl) rfl
theorem q1047 : (Jvm.Cond.methodLink "TailorRegiment" (1 : Nat) ({ cls := "java/lang/Math", name := "min", desc := "(II)I" } : Jvm.MethodName)) ∈ lw_all := lw_g (lw_at lw_m4 214 rfl) rfl
theorem q1048 : (Jvm.Cond.methodLink "TailorRegiment" (7 : Nat) ({ cls := "java/lang/Math", name := "max", desc := "(II)I" } : Jvm.MethodName)) ∈ lw_all := lw_g (lw_at lw_m4 215 rfl) rfl
theorem q1050 : (Jvm.Cond.instanceMethod ({ cls := "TailorRegiment", name := "coat", desc := "(II)I" } : Jvm.MethodName)) ∈ lw_all := lw_g (lw_at lw_m4 217 rfl) rfl
theorem q1051 : (Jvm.Cond.selects "TailorRegiment" ({ cls := "TailorRegiment", name := "coat", desc := "(II)I" } : Jvm.MethodName) ({ cls := "TailorRegiment", name := "coat", desc := "(II)I" } : Jvm.MethodName)) ∈ lw_all := lw_g (lw_at lw_m4 218 rfl) rfl
theorem q1052 : (Jvm.Cond.code ({ cls := "TailorRegiment", name := "coat", desc := "(II)I" } : Jvm.MethodName) prog_1_method_20_code (3 : Nat) (Option.some Jvm.ClassFile.FieldType.int)) ∈ lw_all := lw_g (lw_at lw_m4 219 rfl) rfl
theorem q1053 : (Jvm.Cond.methodLink "TailorRegiment" (205 : Nat) ({ cls := "TailorRegiment", name := "isCoat", desc := "(I)Z" } : Jvm.MethodName)) ∈ lw_all := lw_g (lw_at lw_m4 220 rfl) rfl
theorem q1054 : (Jvm.Cond.privateMethod ({ cls := "TailorRegiment", name := "isCoat", desc := "(I)Z" } : Jvm.MethodName)) ∈ lw_tbl := lw_at lw_m4 221 rfl
theorem q1055 : (Jvm.Cond.instanceMethod ({ cls := "TailorRegiment", name := "isCoat", desc := "(I)Z" } : Jvm.MethodName)) ∈ lw_all := lw_g (lw_at lw_m4 222 rfl) rfl
theorem q1056 : (Jvm.Cond.code ({ cls := "TailorRegiment", name := "isCoat", desc := "(I)Z" } : Jvm.MethodName) prog_1_method_12_code (2 : Nat) (Option.some Jvm.ClassFile.FieldType.boolean)) ∈ lw_all := lw_g (lw_at lw_m4 223 rfl) rfl
theorem q1057 : (Jvm.Cond.methodLink "TailorRegiment" (222 : Nat) ({ cls := "TailorRegiment$State", name := "wearer", desc := "(I)I" } : Jvm.MethodName)) ∈ lw_all := lw_g (lw_at lw_m4 224 rfl) rfl
theorem q1062 : (Jvm.Cond.instanceMethod ({ cls := "TailorRegiment", name := "misfit", desc := "(II)I" } : Jvm.MethodName)) ∈ lw_all := lw_g (lw_at lw_m4 229 rfl) rfl
theorem q1063 : (Jvm.Cond.selects "TailorRegiment" ({ cls := "TailorRegiment", name := "misfit", desc := "(II)I" } : Jvm.MethodName) ({ cls := "TailorRegiment", name := "misfit", desc := "(II)I" } : Jvm.MethodName)) ∈ lw_all := lw_g (lw_at lw_m4 230 rfl) rfl
theorem q1064 : (Jvm.Cond.code ({ cls := "TailorRegiment", name := "misfit", desc := "(II)I" } : Jvm.MethodName) prog_1_method_21_code (3 : Nat) (Option.some Jvm.ClassFile.FieldType.int)) ∈ lw_all := lw_g (lw_at lw_m4 231 rfl) rfl
theorem q1065 : (Jvm.Cond.methodLink "TailorRegiment" (225 : Nat) ({ cls := "TailorRegiment$Regiment", name := "misfit", desc := "(LTailorRegiment$State;II)I" } : Jvm.MethodName)) ∈ lw_all := lw_g (lw_at lw_m4 232 rfl) rfl
theorem q1067 : (Jvm.Cond.instanceMethod ({ cls := "TailorRegiment", name := "day", desc := "()I" } : Jvm.MethodName)) ∈ lw_all := lw_g (lw_at lw_m4 234 rfl) rfl
theorem q1068 : (Jvm.Cond.selects "TailorRegiment" ({ cls := "TailorRegiment", name := "day", desc := "()I" } : Jvm.MethodName) ({ cls := "TailorRegiment", name := "day", desc := "()I" } : Jvm.MethodName)) ∈ lw_all := lw_g (lw_at lw_m4 235 rfl) rfl
theorem q1069 : (Jvm.Cond.code ({ cls := "TailorRegiment", name := "day", desc := "()I" } : Jvm.MethodName) prog_1_method_22_code (1 : Nat) (Option.some Jvm.ClassFile.FieldType.int)) ∈ lw_all := lw_g (lw_at lw_m4 236 rfl) rfl
theorem q1070 : (Jvm.Cond.methodLink "TailorRegiment" (232 : Nat) ({ cls := "TailorRegiment", name := "keepAct", desc := "()V" } : Jvm.MethodName)) ∈ lw_all := lw_g (lw_at lw_m4 237 rfl) rfl
theorem q1071 : (Jvm.Cond.privateMethod ({ cls := "TailorRegiment", name := "keepAct", desc := "()V" } : Jvm.MethodName)) ∈ lw_tbl := lw_at lw_m4 238 rfl
theorem q1072 : (Jvm.Cond.instanceMethod ({ cls := "TailorRegiment", name := "keepAct", desc := "()V" } : Jvm.MethodName)) ∈ lw_all := lw_g (lw_at lw_m4 239 rfl) rfl
theorem q1073 : (Jvm.Cond.code ({ cls := "TailorRegiment", name := "keepAct", desc := "()V" } : Jvm.MethodName) prog_1_method_7_code (1 : Nat) (Option.none : Option Jvm.ClassFile.FieldType)) ∈ lw_all := lw_g (lw_at lw_m5 0 rfl) rfl
theorem q1074 : (Jvm.Cond.methodLink "TailorRegiment" (125 : Nat) ({ cls := "java/util/ArrayList", name := "remove", desc := "(I)Ljava/lang/Object;" } : Jvm.MethodName)) ∈ lw_all := lw_g (lw_at lw_m5 1 rfl) rfl
theorem q1083 : (Jvm.Cond.methodLink "TailorRegiment" (129 : Nat) ({ cls := "TailorRegiment", name := "copy", desc := "(LTailorRegiment$State;)LTailorRegiment$State;" } : Jvm.MethodName)) ∈ lw_all := lw_g (lw_at lw_m5 10 rfl) rfl
theorem q1084 : (Jvm.Cond.static ({ cls := "TailorRegiment", name := "copy", desc := "(LTailorRegiment$State;)LTailorRegiment$State;" } : Jvm.MethodName)) ∈ lw_all := lw_g (lw_at lw_m5 11 rfl) rfl
theorem q1085 : (Jvm.Cond.code ({ cls := "TailorRegiment", name := "copy", desc := "(LTailorRegiment$State;)LTailorRegiment$State;" } : Jvm.MethodName) prog_1_method_6_code (2 : Nat) (Option.some (Jvm.ClassFile.FieldType.object "TailorRegiment$State"))) ∈ lw_all := lw_g (lw_at lw_m5 12 rfl) rfl
theorem q1086 : (Jvm.Cond.methodLink "TailorRegiment" (118 : Nat) ({ cls := "TailorRegiment$State", name := "of", desc := "(LTailorRegiment$State;)V" } : Jvm.MethodName)) ∈ lw_all := lw_g (lw_at lw_m5 13 rfl) rfl
theorem q1091 : (Jvm.Cond.methodLink "TailorRegiment" (133 : Nat) ({ cls := "java/util/ArrayList", name := "add", desc := "(Ljava/lang/Object;)Z" } : Jvm.MethodName)) ∈ lw_all := lw_g (lw_at lw_m5 18 rfl) rfl
theorem q1092 : (Jvm.Cond.methodLink "TailorRegiment" (235 : Nat) ({ cls := "TailorRegiment$State", name := "earnest", desc := "(LTailorRegiment$Regiment;)I" } : Jvm.MethodName)) ∈ lw_all := lw_g (lw_at lw_m5 19 rfl) rfl
theorem q1112 : (Jvm.Cond.instanceMethod ({ cls := "TailorRegiment", name := "don", desc := "(II)I" } : Jvm.MethodName)) ∈ lw_all := lw_g (lw_at lw_m5 39 rfl) rfl
theorem q1113 : (Jvm.Cond.selects "TailorRegiment" ({ cls := "TailorRegiment", name := "don", desc := "(II)I" } : Jvm.MethodName) ({ cls := "TailorRegiment", name := "don", desc := "(II)I" } : Jvm.MethodName)) ∈ lw_all := lw_g (lw_at lw_m5 40 rfl) rfl
theorem q1114 : (Jvm.Cond.code ({ cls := "TailorRegiment", name := "don", desc := "(II)I" } : Jvm.MethodName) prog_1_method_23_code (4 : Nat) (Option.some Jvm.ClassFile.FieldType.int)) ∈ lw_all := lw_g (lw_at lw_m5 41 rfl) rfl
theorem q1116 : (Jvm.Cond.instanceMethod ({ cls := "TailorRegiment", name := "doff", desc := "(I)I" } : Jvm.MethodName)) ∈ lw_all := lw_g (lw_at lw_m5 43 rfl) rfl
theorem q1117 : (Jvm.Cond.selects "TailorRegiment" ({ cls := "TailorRegiment", name := "doff", desc := "(I)I" } : Jvm.MethodName) ({ cls := "TailorRegiment", name := "doff", desc := "(I)I" } : Jvm.MethodName)) ∈ lw_all := lw_g (lw_at lw_m5 44 rfl) rfl
theorem q1118 : (Jvm.Cond.code ({ cls := "TailorRegiment", name := "doff", desc := "(I)I" } : Jvm.MethodName) prog_1_method_24_code (3 : Nat) (Option.some Jvm.ClassFile.FieldType.int)) ∈ lw_all := lw_g (lw_at lw_m5 45 rfl) rfl
theorem q1120 : (Jvm.Cond.instanceMethod ({ cls := "TailorRegiment", name := "letout", desc := "(II)I" } : Jvm.MethodName)) ∈ lw_all := lw_g (lw_at lw_m5 47 rfl) rfl
theorem q1121 : (Jvm.Cond.selects "TailorRegiment" ({ cls := "TailorRegiment", name := "letout", desc := "(II)I" } : Jvm.MethodName) ({ cls := "TailorRegiment", name := "letout", desc := "(II)I" } : Jvm.MethodName)) ∈ lw_all := lw_g (lw_at lw_m5 48 rfl) rfl
theorem q1122 : (Jvm.Cond.code ({ cls := "TailorRegiment", name := "letout", desc := "(II)I" } : Jvm.MethodName) prog_1_method_25_code (3 : Nat) (Option.some Jvm.ClassFile.FieldType.int)) ∈ lw_all := lw_g (lw_at lw_m5 49 rfl) rfl
theorem q1124 : (Jvm.Cond.instanceMethod ({ cls := "TailorRegiment", name := "takein", desc := "(II)I" } : Jvm.MethodName)) ∈ lw_all := lw_g (lw_at lw_m5 51 rfl) rfl
theorem q1125 : (Jvm.Cond.selects "TailorRegiment" ({ cls := "TailorRegiment", name := "takein", desc := "(II)I" } : Jvm.MethodName) ({ cls := "TailorRegiment", name := "takein", desc := "(II)I" } : Jvm.MethodName)) ∈ lw_all := lw_g (lw_at lw_m5 52 rfl) rfl
theorem q1126 : (Jvm.Cond.code ({ cls := "TailorRegiment", name := "takein", desc := "(II)I" } : Jvm.MethodName) prog_1_method_26_code (3 : Nat) (Option.some Jvm.ClassFile.FieldType.int)) ∈ lw_all := lw_g (lw_at lw_m5 53 rfl) rfl
theorem q1128 : (Jvm.Cond.instanceMethod ({ cls := "TailorRegiment", name := "hem", desc := "(II)I" } : Jvm.MethodName)) ∈ lw_all := lw_g (lw_at lw_m5 55 rfl) rfl
theorem q1129 : (Jvm.Cond.selects "TailorRegiment" ({ cls := "TailorRegiment", name := "hem", desc := "(II)I" } : Jvm.MethodName) ({ cls := "TailorRegiment", name := "hem", desc := "(II)I" } : Jvm.MethodName)) ∈ lw_all := lw_g (lw_at lw_m5 56 rfl) rfl
theorem q1130 : (Jvm.Cond.code ({ cls := "TailorRegiment", name := "hem", desc := "(II)I" } : Jvm.MethodName) prog_1_method_27_code (3 : Nat) (Option.some Jvm.ClassFile.FieldType.int)) ∈ lw_all := lw_g (lw_at lw_m5 57 rfl) rfl
theorem q1132 : (Jvm.Cond.instanceMethod ({ cls := "TailorRegiment", name := "turn", desc := "(I)I" } : Jvm.MethodName)) ∈ lw_all := lw_g (lw_at lw_m5 59 rfl) rfl
theorem q1133 : (Jvm.Cond.selects "TailorRegiment" ({ cls := "TailorRegiment", name := "turn", desc := "(I)I" } : Jvm.MethodName) ({ cls := "TailorRegiment", name := "turn", desc := "(I)I" } : Jvm.MethodName)) ∈ lw_all := lw_g (lw_at lw_m5 60 rfl) rfl
theorem q1134 : (Jvm.Cond.code ({ cls := "TailorRegiment", name := "turn", desc := "(I)I" } : Jvm.MethodName) prog_1_method_28_code (3 : Nat) (Option.some Jvm.ClassFile.FieldType.int)) ∈ lw_all := lw_g (lw_at lw_m5 61 rfl) rfl
theorem q1135 : (Jvm.Cond.methodLink "TailorRegiment" (239 : Nat) ({ cls := "TailorRegiment", name := "has", desc := "(II)Z" } : Jvm.MethodName)) ∈ lw_all := lw_g (lw_at lw_m5 62 rfl) rfl
theorem q1136 : (Jvm.Cond.static ({ cls := "TailorRegiment", name := "has", desc := "(II)Z" } : Jvm.MethodName)) ∈ lw_all := lw_g (lw_at lw_m5 63 rfl) rfl
theorem q1137 : (Jvm.Cond.code ({ cls := "TailorRegiment", name := "has", desc := "(II)Z" } : Jvm.MethodName) prog_1_method_3_code (2 : Nat) (Option.some Jvm.ClassFile.FieldType.boolean)) ∈ lw_all := lw_g (lw_at lw_m5 64 rfl) rfl
theorem q1139 : (Jvm.Cond.instanceMethod ({ cls := "TailorRegiment", name := "undo", desc := "()Z" } : Jvm.MethodName)) ∈ lw_all := lw_g (lw_at lw_m5 66 rfl) rfl
theorem q1140 : (Jvm.Cond.selects "TailorRegiment" ({ cls := "TailorRegiment", name := "undo", desc := "()Z" } : Jvm.MethodName) ({ cls := "TailorRegiment", name := "undo", desc := "()Z" } : Jvm.MethodName)) ∈ lw_all := lw_g (lw_at lw_m5 67 rfl) rfl
theorem q1141 : (Jvm.Cond.code ({ cls := "TailorRegiment", name := "undo", desc := "()Z" } : Jvm.MethodName) prog_1_method_29_code (1 : Nat) (Option.some Jvm.ClassFile.FieldType.boolean)) ∈ lw_all := lw_g (lw_at lw_m5 68 rfl) rfl
theorem q1142 : (Jvm.Cond.methodLink "TailorRegiment" (243 : Nat) ({ cls := "java/util/ArrayList", name := "isEmpty", desc := "()Z" } : Jvm.MethodName)) ∈ lw_all := lw_g (lw_at lw_m5 69 rfl) rfl
theorem q1146 : (Jvm.Cond.methodLink "TailorRegiment" (247 : Nat) ({ cls := "TailorRegiment", name := "turned", desc := "(LTailorRegiment$Kept;)LTailorRegiment$Kept;" } : Jvm.MethodName)) ∈ lw_all := lw_g (lw_at lw_m5 73 rfl) rfl
theorem q1147 : (Jvm.Cond.privateMethod ({ cls := "TailorRegiment", name := "turned", desc := "(LTailorRegiment$Kept;)LTailorRegiment$Kept;" } : Jvm.MethodName)) ∈ lw_tbl := lw_at lw_m5 74 rfl
theorem q1148 : (Jvm.Cond.instanceMethod ({ cls := "TailorRegiment", name := "turned", desc := "(LTailorRegiment$Kept;)LTailorRegiment$Kept;" } : Jvm.MethodName)) ∈ lw_all := lw_g (lw_at lw_m5 75 rfl) rfl
theorem q1149 : (Jvm.Cond.code ({ cls := "TailorRegiment", name := "turned", desc := "(LTailorRegiment$Kept;)LTailorRegiment$Kept;" } : Jvm.MethodName) prog_1_method_8_code (3 : Nat) (Option.some (Jvm.ClassFile.FieldType.object "TailorRegiment$Kept"))) ∈ lw_all := lw_g (lw_at lw_m5 76 rfl) rfl
theorem q1151 : (Jvm.Cond.instanceMethod ({ cls := "TailorRegiment", name := "redo", desc := "()Z" } : Jvm.MethodName)) ∈ lw_all := lw_g (lw_at lw_m5 78 rfl) rfl
theorem q1152 : (Jvm.Cond.selects "TailorRegiment" ({ cls := "TailorRegiment", name := "redo", desc := "()Z" } : Jvm.MethodName) ({ cls := "TailorRegiment", name := "redo", desc := "()Z" } : Jvm.MethodName)) ∈ lw_all := lw_g (lw_at lw_m5 79 rfl) rfl
theorem q1153 : (Jvm.Cond.code ({ cls := "TailorRegiment", name := "redo", desc := "()Z" } : Jvm.MethodName) prog_1_method_30_code (1 : Nat) (Option.some Jvm.ClassFile.FieldType.boolean)) ∈ lw_all := lw_g (lw_at lw_m5 80 rfl) rfl
theorem q1155 : (Jvm.Cond.instanceMethod ({ cls := "TailorRegiment", name := "will", desc := "(III)I" } : Jvm.MethodName)) ∈ lw_all := lw_g (lw_at lw_m5 82 rfl) rfl
theorem q1156 : (Jvm.Cond.selects "TailorRegiment" ({ cls := "TailorRegiment", name := "will", desc := "(III)I" } : Jvm.MethodName) ({ cls := "TailorRegiment", name := "will", desc := "(III)I" } : Jvm.MethodName)) ∈ lw_all := lw_g (lw_at lw_m5 83 rfl) rfl
theorem q1157 : (Jvm.Cond.code ({ cls := "TailorRegiment", name := "will", desc := "(III)I" } : Jvm.MethodName) prog_1_method_31_code (6 : Nat) (Option.some Jvm.ClassFile.FieldType.int)) ∈ lw_all := lw_g (lw_at lw_m5 84 rfl) rfl
theorem q1158 : (Jvm.Cond.methodLink "TailorRegiment" (250 : Nat) ({ cls := "TailorRegiment$State", name := "goOn", desc := "(LTailorRegiment$Regiment;Z)I" } : Jvm.MethodName)) ∈ lw_all := lw_g (lw_at lw_m5 85 rfl) rfl
theorem q1160 : (Jvm.Cond.instanceMethod ({ cls := "TailorRegiment", name := "out", desc := "(I)I" } : Jvm.MethodName)) ∈ lw_all := lw_g (lw_at lw_m5 87 rfl) rfl
theorem q1161 : (Jvm.Cond.selects "TailorRegiment" ({ cls := "TailorRegiment", name := "out", desc := "(I)I" } : Jvm.MethodName) ({ cls := "TailorRegiment", name := "out", desc := "(I)I" } : Jvm.MethodName)) ∈ lw_all := lw_g (lw_at lw_m5 88 rfl) rfl
theorem q1162 : (Jvm.Cond.code ({ cls := "TailorRegiment", name := "out", desc := "(I)I" } : Jvm.MethodName) prog_1_method_33_code (2 : Nat) (Option.some Jvm.ClassFile.FieldType.int)) ∈ lw_all := lw_g (lw_at lw_m5 89 rfl) rfl
theorem q1163 : (Jvm.Cond.methodLink "TailorRegiment" (257 : Nat) ({ cls := "TailorRegiment", name := "bareBehind", desc := "(I)I" } : Jvm.MethodName)) ∈ lw_all := lw_g (lw_at lw_m5 90 rfl) rfl
theorem q1164 : (Jvm.Cond.privateMethod ({ cls := "TailorRegiment", name := "bareBehind", desc := "(I)I" } : Jvm.MethodName)) ∈ lw_tbl := lw_at lw_m5 91 rfl
theorem q1165 : (Jvm.Cond.instanceMethod ({ cls := "TailorRegiment", name := "bareBehind", desc := "(I)I" } : Jvm.MethodName)) ∈ lw_all := lw_g (lw_at lw_m5 92 rfl) rfl
theorem q1166 : (Jvm.Cond.code ({ cls := "TailorRegiment", name := "bareBehind", desc := "(I)I" } : Jvm.MethodName) prog_1_method_32_code (3 : Nat) (Option.some Jvm.ClassFile.FieldType.int)) ∈ lw_all := lw_g (lw_at lw_m5 93 rfl) rfl
theorem q1167 : (Jvm.Cond.methodLink "TailorRegiment" (254 : Nat) ({ cls := "TailorRegiment$State", name := "dressed", desc := "()I" } : Jvm.MethodName)) ∈ lw_all := lw_g (lw_at lw_m5 94 rfl) rfl
theorem q1169 : (Jvm.Cond.instanceMethod ({ cls := "TailorRegiment", name := "rout", desc := "()I" } : Jvm.MethodName)) ∈ lw_all := lw_g (lw_at lw_m5 96 rfl) rfl
theorem q1170 : (Jvm.Cond.selects "TailorRegiment" ({ cls := "TailorRegiment", name := "rout", desc := "()I" } : Jvm.MethodName) ({ cls := "TailorRegiment", name := "rout", desc := "()I" } : Jvm.MethodName)) ∈ lw_all := lw_g (lw_at lw_m5 97 rfl) rfl
theorem q1171 : (Jvm.Cond.code ({ cls := "TailorRegiment", name := "rout", desc := "()I" } : Jvm.MethodName) prog_1_method_34_code (1 : Nat) (Option.some Jvm.ClassFile.FieldType.int)) ∈ lw_all := lw_g (lw_at lw_m5 98 rfl) rfl
theorem q1173 : (Jvm.Cond.instanceMethod ({ cls := "TailorRegiment", name := "fitted", desc := "()I" } : Jvm.MethodName)) ∈ lw_all := lw_g (lw_at lw_m5 100 rfl) rfl
theorem q1174 : (Jvm.Cond.selects "TailorRegiment" ({ cls := "TailorRegiment", name := "fitted", desc := "()I" } : Jvm.MethodName) ({ cls := "TailorRegiment", name := "fitted", desc := "()I" } : Jvm.MethodName)) ∈ lw_all := lw_g (lw_at lw_m5 101 rfl) rfl
theorem q1175 : (Jvm.Cond.code ({ cls := "TailorRegiment", name := "fitted", desc := "()I" } : Jvm.MethodName) prog_1_method_35_code (1 : Nat) (Option.some Jvm.ClassFile.FieldType.int)) ∈ lw_all := lw_g (lw_at lw_m5 102 rfl) rfl
theorem q1176 : (Jvm.Cond.methodLink "TailorRegiment" (260 : Nat) ({ cls := "TailorRegiment$State", name := "fitted", desc := "(LTailorRegiment$Regiment;)I" } : Jvm.MethodName)) ∈ lw_all := lw_g (lw_at lw_m5 103 rfl) rfl
theorem q1178 : (Jvm.Cond.instanceMethod ({ cls := "TailorRegiment", name := "lies", desc := "(I)I" } : Jvm.MethodName)) ∈ lw_all := lw_g (lw_at lw_m5 105 rfl) rfl
theorem q1179 : (Jvm.Cond.selects "TailorRegiment" ({ cls := "TailorRegiment", name := "lies", desc := "(I)I" } : Jvm.MethodName) ({ cls := "TailorRegiment", name := "lies", desc := "(I)I" } : Jvm.MethodName)) ∈ lw_all := lw_g (lw_at lw_m5 106 rfl) rfl
theorem q1180 : (Jvm.Cond.code ({ cls := "TailorRegiment", name := "lies", desc := "(I)I" } : Jvm.MethodName) prog_1_method_36_code (2 : Nat) (Option.some Jvm.ClassFile.FieldType.int)) ∈ lw_all := lw_g (lw_at lw_m5 107 rfl) rfl
theorem q1182 : (Jvm.Cond.instanceMethod ({ cls := "TailorRegiment", name := "dress", desc := "(I)I" } : Jvm.MethodName)) ∈ lw_all := lw_g (lw_at lw_m5 109 rfl) rfl
theorem q1183 : (Jvm.Cond.selects "TailorRegiment" ({ cls := "TailorRegiment", name := "dress", desc := "(I)I" } : Jvm.MethodName) ({ cls := "TailorRegiment", name := "dress", desc := "(I)I" } : Jvm.MethodName)) ∈ lw_all := lw_g (lw_at lw_m5 110 rfl) rfl
theorem q1184 : (Jvm.Cond.code ({ cls := "TailorRegiment", name := "dress", desc := "(I)I" } : Jvm.MethodName) prog_1_method_38_code (2 : Nat) (Option.some Jvm.ClassFile.FieldType.int)) ∈ lw_all := lw_g (lw_at lw_m5 111 rfl) rfl
theorem q1185 : (Jvm.Cond.methodLink "TailorRegiment" (275 : Nat) ({ cls := "TailorRegiment", name := "goDress", desc := "(IIII)V" } : Jvm.MethodName)) ∈ lw_all := lw_g (lw_at lw_m5 112 rfl) rfl
theorem q1186 : (Jvm.Cond.privateMethod ({ cls := "TailorRegiment", name := "goDress", desc := "(IIII)V" } : Jvm.MethodName)) ∈ lw_tbl := lw_at lw_m5 113 rfl
theorem q1187 : (Jvm.Cond.instanceMethod ({ cls := "TailorRegiment", name := "goDress", desc := "(IIII)V" } : Jvm.MethodName)) ∈ lw_all := lw_g (lw_at lw_m5 114 rfl) rfl
theorem q1188 : (Jvm.Cond.code ({ cls := "TailorRegiment", name := "goDress", desc := "(IIII)V" } : Jvm.MethodName) prog_1_method_37_code (6 : Nat) (Option.none : Option Jvm.ClassFile.FieldType)) ∈ lw_all := lw_g (lw_at lw_m5 115 rfl) rfl
theorem q1189 : (Jvm.Cond.methodLink "TailorRegiment" (269 : Nat) ({ cls := "java/lang/System", name := "arraycopy", desc := "(Ljava/lang/Object;ILjava/lang/Object;II)V" } : Jvm.MethodName)) ∈ lw_all := lw_g (lw_at lw_m5 116 rfl) rfl
theorem q1191 : (Jvm.Cond.instanceMethod ({ cls := "TailorRegiment", name := "rota", desc := "(I)I" } : Jvm.MethodName)) ∈ lw_all := lw_g (lw_at lw_m5 118 rfl) rfl
theorem q1192 : (Jvm.Cond.selects "TailorRegiment" ({ cls := "TailorRegiment", name := "rota", desc := "(I)I" } : Jvm.MethodName) ({ cls := "TailorRegiment", name := "rota", desc := "(I)I" } : Jvm.MethodName)) ∈ lw_all := lw_g (lw_at lw_m5 119 rfl) rfl
theorem q1193 : (Jvm.Cond.code ({ cls := "TailorRegiment", name := "rota", desc := "(I)I" } : Jvm.MethodName) prog_1_method_39_code (7 : Nat) (Option.some Jvm.ClassFile.FieldType.int)) ∈ lw_all := lw_g (lw_at lw_m5 120 rfl) rfl
theorem q1195 : (Jvm.Cond.instanceMethod ({ cls := "TailorRegiment", name := "change", desc := "(I)I" } : Jvm.MethodName)) ∈ lw_all := lw_g (lw_at lw_m5 122 rfl) rfl
theorem q1196 : (Jvm.Cond.selects "TailorRegiment" ({ cls := "TailorRegiment", name := "change", desc := "(I)I" } : Jvm.MethodName) ({ cls := "TailorRegiment", name := "change", desc := "(I)I" } : Jvm.MethodName)) ∈ lw_all := lw_g (lw_at lw_m5 123 rfl) rfl
theorem q1197 : (Jvm.Cond.code ({ cls := "TailorRegiment", name := "change", desc := "(I)I" } : Jvm.MethodName) prog_1_method_40_code (7 : Nat) (Option.some Jvm.ClassFile.FieldType.int)) ∈ lw_all := lw_g (lw_at lw_m5 124 rfl) rfl
theorem q1198 : (Jvm.Cond.methodLink "TailorRegiment" (279 : Nat) ({ cls := "TailorRegiment", name := "fitted", desc := "()I" } : Jvm.MethodName)) ∈ lw_all := lw_g (lw_at lw_m5 125 rfl) rfl
theorem q1199 : (Jvm.Cond.methodLink "TailorRegiment" (281 : Nat) ({ cls := "java/lang/Integer", name := "bitCount", desc := "(I)I" } : Jvm.MethodName)) ∈ lw_all := lw_g (lw_at lw_m5 126 rfl) rfl
theorem q1205 : (Jvm.Cond.methodLink "TailorRegiment" (286 : Nat) ({ cls := "TailorRegiment$State", name := "exchange", desc := "(II)V" } : Jvm.MethodName)) ∈ lw_all := lw_g (lw_at lw_m5 132 rfl) rfl
theorem q1210 : (Jvm.Cond.instanceMethod ({ cls := "TailorRegiment", name := "sewing", desc := "(III)I" } : Jvm.MethodName)) ∈ lw_all := lw_g (lw_at lw_m5 137 rfl) rfl
theorem q1211 : (Jvm.Cond.selects "TailorRegiment" ({ cls := "TailorRegiment", name := "sewing", desc := "(III)I" } : Jvm.MethodName) ({ cls := "TailorRegiment", name := "sewing", desc := "(III)I" } : Jvm.MethodName)) ∈ lw_all := lw_g (lw_at lw_m5 138 rfl) rfl
theorem q1212 : (Jvm.Cond.code ({ cls := "TailorRegiment", name := "sewing", desc := "(III)I" } : Jvm.MethodName) prog_1_method_42_code (8 : Nat) (Option.some Jvm.ClassFile.FieldType.int)) ∈ lw_all := lw_g (lw_at lw_m5 139 rfl) rfl
theorem q1213 : (Jvm.Cond.methodLink "TailorRegiment" (290 : Nat) ({ cls := "TailorRegiment", name := "doesFit", desc := "(IIII)Z" } : Jvm.MethodName)) ∈ lw_all := lw_g (lw_at lw_m5 140 rfl) rfl
theorem q1214 : (Jvm.Cond.privateMethod ({ cls := "TailorRegiment", name := "doesFit", desc := "(IIII)Z" } : Jvm.MethodName)) ∈ lw_tbl := lw_at lw_m5 141 rfl
theorem q1215 : (Jvm.Cond.instanceMethod ({ cls := "TailorRegiment", name := "doesFit", desc := "(IIII)Z" } : Jvm.MethodName)) ∈ lw_all := lw_g (lw_at lw_m5 142 rfl) rfl
theorem q1216 : (Jvm.Cond.code ({ cls := "TailorRegiment", name := "doesFit", desc := "(IIII)Z" } : Jvm.MethodName) prog_1_method_41_code (6 : Nat) (Option.some Jvm.ClassFile.FieldType.boolean)) ∈ lw_all := lw_g (lw_at lw_m5 143 rfl) rfl
theorem q1218 : (Jvm.Cond.instanceMethod ({ cls := "TailorRegiment", name := "turning", desc := "()I" } : Jvm.MethodName)) ∈ lw_all := lw_g (lw_at lw_m5 145 rfl) rfl
theorem q1219 : (Jvm.Cond.selects "TailorRegiment" ({ cls := "TailorRegiment", name := "turning", desc := "()I" } : Jvm.MethodName) ({ cls := "TailorRegiment", name := "turning", desc := "()I" } : Jvm.MethodName)) ∈ lw_all := lw_g (lw_at lw_m5 146 rfl) rfl
theorem q1220 : (Jvm.Cond.code ({ cls := "TailorRegiment", name := "turning", desc := "()I" } : Jvm.MethodName) prog_1_method_43_code (5 : Nat) (Option.some Jvm.ClassFile.FieldType.int)) ∈ lw_all := lw_g (lw_at lw_m5 147 rfl) rfl
theorem q1222 : (Jvm.Cond.instanceMethod ({ cls := "TailorRegiment", name := "front", desc := "(II)I" } : Jvm.MethodName)) ∈ lw_all := lw_g (lw_at lw_m5 149 rfl) rfl
theorem q1223 : (Jvm.Cond.selects "TailorRegiment" ({ cls := "TailorRegiment", name := "front", desc := "(II)I" } : Jvm.MethodName) ({ cls := "TailorRegiment", name := "front", desc := "(II)I" } : Jvm.MethodName)) ∈ lw_all := lw_g (lw_at lw_m5 150 rfl) rfl
theorem q1224 : (Jvm.Cond.code ({ cls := "TailorRegiment", name := "front", desc := "(II)I" } : Jvm.MethodName) prog_1_method_45_code (4 : Nat) (Option.some Jvm.ClassFile.FieldType.int)) ∈ lw_all := lw_g (lw_at lw_m5 151 rfl) rfl
theorem q1225 : (Jvm.Cond.methodLink "TailorRegiment" (296 : Nat) ({ cls := "TailorRegiment$Front", name := "seek", desc := "(I)I" } : Jvm.MethodName)) ∈ lw_all := lw_g (lw_at lw_m5 152 rfl) rfl
theorem q1238 : (Jvm.Cond.privateMethod ({ cls := "TailorRegiment", name := "breadthOf", desc := "(I)I" } : Jvm.MethodName)) ∈ lw_tbl := lw_at lw_m5 165 rfl
theorem q1239 : (Jvm.Cond.instanceMethod ({ cls := "TailorRegiment", name := "breadthOf", desc := "(I)I" } : Jvm.MethodName)) ∈ lw_all := lw_g (lw_at lw_m5 166 rfl) rfl
theorem q1240 : (Jvm.Cond.code ({ cls := "TailorRegiment", name := "breadthOf", desc := "(I)I" } : Jvm.MethodName) prog_1_method_44_code (4 : Nat) (Option.some Jvm.ClassFile.FieldType.int)) ∈ lw_all := lw_g (lw_at lw_m5 167 rfl) rfl
theorem q1263 : (Jvm.Cond.instanceMethod ({ cls := "TailorRegiment", name := "wings", desc := "(I)I" } : Jvm.MethodName)) ∈ lw_all := lw_g (lw_at lw_m5 190 rfl) rfl
theorem q1264 : (Jvm.Cond.selects "TailorRegiment" ({ cls := "TailorRegiment", name := "wings", desc := "(I)I" } : Jvm.MethodName) ({ cls := "TailorRegiment", name := "wings", desc := "(I)I" } : Jvm.MethodName)) ∈ lw_all := lw_g (lw_at lw_m5 191 rfl) rfl
theorem q1265 : (Jvm.Cond.code ({ cls := "TailorRegiment", name := "wings", desc := "(I)I" } : Jvm.MethodName) prog_1_method_46_code (3 : Nat) (Option.some Jvm.ClassFile.FieldType.int)) ∈ lw_all := lw_g (lw_at lw_m5 192 rfl) rfl
theorem q1266 : (Jvm.Cond.methodLink "TailorRegiment" (299 : Nat) ({ cls := "TailorRegiment$Wing", name := "seek", desc := "(I)I" } : Jvm.MethodName)) ∈ lw_all := lw_g (lw_at lw_m5 193 rfl) rfl
theorem q1269 : (Jvm.Cond.methodLink "TailorRegiment" (300 : Nat) ({ cls := "TailorRegiment$Wing", name := "cost", desc := "(I)I" } : Jvm.MethodName)) ∈ lw_all := lw_g (lw_at lw_m5 196 rfl) rfl
theorem q1271 : (Jvm.Cond.instanceMethod ({ cls := "TailorRegiment", name := "breadth", desc := "()I" } : Jvm.MethodName)) ∈ lw_all := lw_g (lw_at lw_m5 198 rfl) rfl
theorem q1272 : (Jvm.Cond.selects "TailorRegiment" ({ cls := "TailorRegiment", name := "breadth", desc := "()I" } : Jvm.MethodName) ({ cls := "TailorRegiment", name := "breadth", desc := "()I" } : Jvm.MethodName)) ∈ lw_all := lw_g (lw_at lw_m5 199 rfl) rfl
theorem q1273 : (Jvm.Cond.code ({ cls := "TailorRegiment", name := "breadth", desc := "()I" } : Jvm.MethodName) prog_1_method_47_code (1 : Nat) (Option.some Jvm.ClassFile.FieldType.int)) ∈ lw_all := lw_g (lw_at lw_m5 200 rfl) rfl
theorem q1274 : (Jvm.Cond.methodLink "TailorRegiment" (303 : Nat) ({ cls := "TailorRegiment", name := "breadthOf", desc := "(I)I" } : Jvm.MethodName)) ∈ lw_all := lw_g (lw_at lw_m5 201 rfl) rfl
theorem q1276 : (Jvm.Cond.instanceMethod ({ cls := "TailorRegiment", name := "cloth", desc := "()I" } : Jvm.MethodName)) ∈ lw_all := lw_g (lw_at lw_m5 203 rfl) rfl
theorem q1277 : (Jvm.Cond.selects "TailorRegiment" ({ cls := "TailorRegiment", name := "cloth", desc := "()I" } : Jvm.MethodName) ({ cls := "TailorRegiment", name := "cloth", desc := "()I" } : Jvm.MethodName)) ∈ lw_all := lw_g (lw_at lw_m5 204 rfl) rfl
theorem q1278 : (Jvm.Cond.code ({ cls := "TailorRegiment", name := "cloth", desc := "()I" } : Jvm.MethodName) prog_1_method_49_code (5 : Nat) (Option.some Jvm.ClassFile.FieldType.int)) ∈ lw_all := lw_g (lw_at lw_m5 205 rfl) rfl
theorem q1279 : (Jvm.Cond.methodLink "TailorRegiment" (309 : Nat) ({ cls := "TailorRegiment", name := "rowOf", desc := "(I)I" } : Jvm.MethodName)) ∈ lw_all := lw_g (lw_at lw_m5 206 rfl) rfl
theorem q1280 : (Jvm.Cond.privateMethod ({ cls := "TailorRegiment", name := "rowOf", desc := "(I)I" } : Jvm.MethodName)) ∈ lw_tbl := lw_at lw_m5 207 rfl
theorem q1281 : (Jvm.Cond.instanceMethod ({ cls := "TailorRegiment", name := "rowOf", desc := "(I)I" } : Jvm.MethodName)) ∈ lw_all := lw_g (lw_at lw_m5 208 rfl) rfl
theorem q1282 : (Jvm.Cond.code ({ cls := "TailorRegiment", name := "rowOf", desc := "(I)I" } : Jvm.MethodName) prog_1_method_48_code (5 : Nat) (Option.some Jvm.ClassFile.FieldType.int)) ∈ lw_all := lw_g (lw_at lw_m5 209 rfl) rfl
theorem q1284 : (Jvm.Cond.instanceMethod ({ cls := "TailorRegiment", name := "buttons", desc := "()I" } : Jvm.MethodName)) ∈ lw_all := lw_g (lw_at lw_m5 211 rfl) rfl
theorem q1285 : (Jvm.Cond.selects "TailorRegiment" ({ cls := "TailorRegiment", name := "buttons", desc := "()I" } : Jvm.MethodName) ({ cls := "TailorRegiment", name := "buttons", desc := "()I" } : Jvm.MethodName)) ∈ lw_all := lw_g (lw_at lw_m5 212 rfl) rfl
theorem q1286 : (Jvm.Cond.code ({ cls := "TailorRegiment", name := "buttons", desc := "()I" } : Jvm.MethodName) prog_1_method_52_code (2 : Nat) (Option.some Jvm.ClassFile.FieldType.int)) ∈ lw_all := lw_g (lw_at lw_m5 213 rfl) rfl
theorem q1287 : (Jvm.Cond.methodLink "TailorRegiment" (321 : Nat) ({ cls := "TailorRegiment", name := "goColour", desc := "(II)Z" } : Jvm.MethodName)) ∈ lw_all := lw_g (lw_at lw_m5 214 rfl) rfl
theorem q1288 : (Jvm.Cond.privateMethod ({ cls := "TailorRegiment", name := "goColour", desc := "(II)Z" } : Jvm.MethodName)) ∈ lw_tbl := lw_at lw_m5 215 rfl
theorem q1289 : (Jvm.Cond.instanceMethod ({ cls := "TailorRegiment", name := "goColour", desc := "(II)Z" } : Jvm.MethodName)) ∈ lw_all := lw_g (lw_at lw_m5 216 rfl) rfl
theorem q1290 : (Jvm.Cond.code ({ cls := "TailorRegiment", name := "goColour", desc := "(II)Z" } : Jvm.MethodName) prog_1_method_51_code (6 : Nat) (Option.some Jvm.ClassFile.FieldType.boolean)) ∈ lw_all := lw_g (lw_at lw_m5 217 rfl) rfl
theorem q1291 : (Jvm.Cond.methodLink "TailorRegiment" (318 : Nat) ({ cls := "TailorRegiment", name := "areLike", desc := "(II)Z" } : Jvm.MethodName)) ∈ lw_all := lw_g (lw_at lw_m5 218 rfl) rfl
theorem q1292 : (Jvm.Cond.privateMethod ({ cls := "TailorRegiment", name := "areLike", desc := "(II)Z" } : Jvm.MethodName)) ∈ lw_tbl := lw_at lw_m5 219 rfl
theorem q1293 : (Jvm.Cond.instanceMethod ({ cls := "TailorRegiment", name := "areLike", desc := "(II)Z" } : Jvm.MethodName)) ∈ lw_all := lw_g (lw_at lw_m5 220 rfl) rfl
theorem q1294 : (Jvm.Cond.code ({ cls := "TailorRegiment", name := "areLike", desc := "(II)Z" } : Jvm.MethodName) prog_1_method_50_code (3 : Nat) (Option.some Jvm.ClassFile.FieldType.boolean)) ∈ lw_all := lw_g (lw_at lw_m5 221 rfl) rfl
theorem q1295 : (Jvm.Cond.methodLink "TailorRegiment" (312 : Nat) ({ cls := "java/lang/Math", name := "abs", desc := "(I)I" } : Jvm.MethodName)) ∈ lw_all := lw_g (lw_at lw_m5 222 rfl) rfl
theorem q1297 : (Jvm.Cond.instanceMethod ({ cls := "TailorRegiment", name := "reach", desc := "(II)I" } : Jvm.MethodName)) ∈ lw_all := lw_g (lw_at lw_m5 224 rfl) rfl
theorem q1298 : (Jvm.Cond.selects "TailorRegiment" ({ cls := "TailorRegiment", name := "reach", desc := "(II)I" } : Jvm.MethodName) ({ cls := "TailorRegiment", name := "reach", desc := "(II)I" } : Jvm.MethodName)) ∈ lw_all := lw_g (lw_at lw_m5 225 rfl) rfl
theorem q1299 : (Jvm.Cond.code ({ cls := "TailorRegiment", name := "reach", desc := "(II)I" } : Jvm.MethodName) prog_1_method_55_code (7 : Nat) (Option.some Jvm.ClassFile.FieldType.int)) ∈ lw_all := lw_g (lw_at lw_m5 226 rfl) rfl
theorem q1300 : (Jvm.Cond.methodLink "TailorRegiment" (328 : Nat) ({ cls := "TailorRegiment", name := "rests", desc := "(IIII)Z" } : Jvm.MethodName)) ∈ lw_all := lw_g (lw_at lw_m5 227 rfl) rfl
theorem q1301 : (Jvm.Cond.privateMethod ({ cls := "TailorRegiment", name := "rests", desc := "(IIII)Z" } : Jvm.MethodName)) ∈ lw_tbl := lw_at lw_m5 228 rfl
theorem q1302 : (Jvm.Cond.instanceMethod ({ cls := "TailorRegiment", name := "rests", desc := "(IIII)Z" } : Jvm.MethodName)) ∈ lw_all := lw_g (lw_at lw_m5 229 rfl) rfl
theorem q1303 : (Jvm.Cond.code ({ cls := "TailorRegiment", name := "rests", desc := "(IIII)Z" } : Jvm.MethodName) prog_1_method_54_code (6 : Nat) (Option.some Jvm.ClassFile.FieldType.boolean)) ∈ lw_all := lw_g (lw_at lw_m5 230 rfl) rfl
theorem q1304 : (Jvm.Cond.methodLink "TailorRegiment" (324 : Nat) ({ cls := "TailorRegiment", name := "gets", desc := "(III)I" } : Jvm.MethodName)) ∈ lw_all := lw_g (lw_at lw_m5 231 rfl) rfl
theorem q1305 : (Jvm.Cond.privateMethod ({ cls := "TailorRegiment", name := "gets", desc := "(III)I" } : Jvm.MethodName)) ∈ lw_tbl := lw_at lw_m5 232 rfl
theorem q1306 : (Jvm.Cond.instanceMethod ({ cls := "TailorRegiment", name := "gets", desc := "(III)I" } : Jvm.MethodName)) ∈ lw_all := lw_g (lw_at lw_m5 233 rfl) rfl
theorem q1307 : (Jvm.Cond.code ({ cls := "TailorRegiment", name := "gets", desc := "(III)I" } : Jvm.MethodName) prog_1_method_53_code (4 : Nat) (Option.some Jvm.ClassFile.FieldType.int)) ∈ lw_all := lw_g (lw_at lw_m5 234 rfl) rfl
theorem q1309 : (Jvm.Cond.instanceMethod ({ cls := "TailorRegiment", name := "rags", desc := "()I" } : Jvm.MethodName)) ∈ lw_all := lw_g (lw_at lw_m5 236 rfl) rfl
theorem q1310 : (Jvm.Cond.selects "TailorRegiment" ({ cls := "TailorRegiment", name := "rags", desc := "()I" } : Jvm.MethodName) ({ cls := "TailorRegiment", name := "rags", desc := "()I" } : Jvm.MethodName)) ∈ lw_all := lw_g (lw_at lw_m5 237 rfl) rfl
theorem q1311 : (Jvm.Cond.code ({ cls := "TailorRegiment", name := "rags", desc := "()I" } : Jvm.MethodName) prog_1_method_56_code (3 : Nat) (Option.some Jvm.ClassFile.FieldType.int)) ∈ lw_all := lw_g (lw_at lw_m5 238 rfl) rfl
theorem q1312 : (Jvm.Cond.methodLink "TailorRegiment" (331 : Nat) ({ cls := "TailorRegiment", name := "popular", desc := "(I)I" } : Jvm.MethodName)) ∈ lw_all := lw_g (lw_at lw_m5 239 rfl) rfl
theorem q1313 : (Jvm.Cond.instanceMethod ({ cls := "TailorRegiment", name := "popular", desc := "(I)I" } : Jvm.MethodName)) ∈ lw_all := lw_g (lw_at lw_m6 0 rfl) rfl
theorem q1314 : (Jvm.Cond.selects "TailorRegiment" ({ cls := "TailorRegiment", name := "popular", desc := "(I)I" } : Jvm.MethodName) ({ cls := "TailorRegiment", name := "popular", desc := "(I)I" } : Jvm.MethodName)) ∈ lw_all := lw_g (lw_at lw_m6 1 rfl) rfl
theorem q1315 : (Jvm.Cond.code ({ cls := "TailorRegiment", name := "popular", desc := "(I)I" } : Jvm.MethodName) prog_1_method_58_code (4 : Nat) (Option.some Jvm.ClassFile.FieldType.int)) ∈ lw_all := lw_g (lw_at lw_m6 2 rfl) rfl
theorem q1317 : (Jvm.Cond.instanceMethod ({ cls := "TailorRegiment", name := "naked", desc := "()I" } : Jvm.MethodName)) ∈ lw_all := lw_g (lw_at lw_m6 4 rfl) rfl
theorem q1318 : (Jvm.Cond.selects "TailorRegiment" ({ cls := "TailorRegiment", name := "naked", desc := "()I" } : Jvm.MethodName) ({ cls := "TailorRegiment", name := "naked", desc := "()I" } : Jvm.MethodName)) ∈ lw_all := lw_g (lw_at lw_m6 5 rfl) rfl
theorem q1319 : (Jvm.Cond.code ({ cls := "TailorRegiment", name := "naked", desc := "()I" } : Jvm.MethodName) prog_1_method_57_code (3 : Nat) (Option.some Jvm.ClassFile.FieldType.int)) ∈ lw_all := lw_g (lw_at lw_m6 6 rfl) rfl
theorem q1322 : (Jvm.Cond.instanceMethod ({ cls := "TailorRegiment", name := "law", desc := "(I)I" } : Jvm.MethodName)) ∈ lw_all := lw_g (lw_at lw_m6 9 rfl) rfl
theorem q1323 : (Jvm.Cond.selects "TailorRegiment" ({ cls := "TailorRegiment", name := "law", desc := "(I)I" } : Jvm.MethodName) ({ cls := "TailorRegiment", name := "law", desc := "(I)I" } : Jvm.MethodName)) ∈ lw_all := lw_g (lw_at lw_m6 10 rfl) rfl
theorem q1324 : (Jvm.Cond.code ({ cls := "TailorRegiment", name := "law", desc := "(I)I" } : Jvm.MethodName) prog_1_method_59_code (4 : Nat) (Option.some Jvm.ClassFile.FieldType.int)) ∈ lw_all := lw_g (lw_at lw_m6 11 rfl) rfl
theorem q1326 : (Jvm.Cond.instanceMethod ({ cls := "TailorRegiment", name := "ease", desc := "()I" } : Jvm.MethodName)) ∈ lw_all := lw_g (lw_at lw_m6 13 rfl) rfl
theorem q1327 : (Jvm.Cond.selects "TailorRegiment" ({ cls := "TailorRegiment", name := "ease", desc := "()I" } : Jvm.MethodName) ({ cls := "TailorRegiment", name := "ease", desc := "()I" } : Jvm.MethodName)) ∈ lw_all := lw_g (lw_at lw_m6 14 rfl) rfl
theorem q1328 : (Jvm.Cond.code ({ cls := "TailorRegiment", name := "ease", desc := "()I" } : Jvm.MethodName) prog_1_method_60_code (3 : Nat) (Option.some Jvm.ClassFile.FieldType.int)) ∈ lw_all := lw_g (lw_at lw_m6 15 rfl) rfl
theorem q1330 : (Jvm.Cond.instanceMethod ({ cls := "TailorRegiment", name := "odds", desc := "(II)I" } : Jvm.MethodName)) ∈ lw_all := lw_g (lw_at lw_m6 17 rfl) rfl
theorem q1331 : (Jvm.Cond.selects "TailorRegiment" ({ cls := "TailorRegiment", name := "odds", desc := "(II)I" } : Jvm.MethodName) ({ cls := "TailorRegiment", name := "odds", desc := "(II)I" } : Jvm.MethodName)) ∈ lw_all := lw_g (lw_at lw_m6 18 rfl) rfl
theorem q1332 : (Jvm.Cond.code ({ cls := "TailorRegiment", name := "odds", desc := "(II)I" } : Jvm.MethodName) prog_1_method_62_code (6 : Nat) (Option.some Jvm.ClassFile.FieldType.int)) ∈ lw_all := lw_g (lw_at lw_m6 19 rfl) rfl
theorem q1333 : (Jvm.Cond.methodLink "TailorRegiment" (334 : Nat) ({ cls := "TailorRegiment", name := "common", desc := "(II)I" } : Jvm.MethodName)) ∈ lw_all := lw_g (lw_at lw_m6 20 rfl) rfl
theorem q1334 : (Jvm.Cond.static ({ cls := "TailorRegiment", name := "common", desc := "(II)I" } : Jvm.MethodName)) ∈ lw_all := lw_g (lw_at lw_m6 21 rfl) rfl
theorem q1335 : (Jvm.Cond.code ({ cls := "TailorRegiment", name := "common", desc := "(II)I" } : Jvm.MethodName) prog_1_method_61_code (2 : Nat) (Option.some Jvm.ClassFile.FieldType.int)) ∈ lw_all := lw_g (lw_at lw_m6 22 rfl) rfl
theorem q1337 : (Jvm.Cond.instanceMethod ({ cls := "TailorRegiment", name := "seen", desc := "(IZ)I" } : Jvm.MethodName)) ∈ lw_all := lw_g (lw_at lw_m6 24 rfl) rfl
theorem q1338 : (Jvm.Cond.selects "TailorRegiment" ({ cls := "TailorRegiment", name := "seen", desc := "(IZ)I" } : Jvm.MethodName) ({ cls := "TailorRegiment", name := "seen", desc := "(IZ)I" } : Jvm.MethodName)) ∈ lw_all := lw_g (lw_at lw_m6 25 rfl) rfl
theorem q1339 : (Jvm.Cond.code ({ cls := "TailorRegiment", name := "seen", desc := "(IZ)I" } : Jvm.MethodName) prog_1_method_63_code (3 : Nat) (Option.some Jvm.ClassFile.FieldType.int)) ∈ lw_all := lw_g (lw_at lw_m6 26 rfl) rfl
theorem q1340 : (Jvm.Cond.classLink "TailorRegiment" (340 : Nat) "TailorRegiment$Sight") ∈ lw_all := lw_g (lw_at lw_m6 27 rfl) rfl
theorem q1342 : (Jvm.Cond.methodLink "TailorRegiment" (345 : Nat) ({ cls := "TailorRegiment$Sight", name := "<init>", desc := "(IZI)V" } : Jvm.MethodName)) ∈ lw_all := lw_g (lw_at lw_m6 29 rfl) rfl
theorem q1347 : (Jvm.Cond.fieldLinkNest "TailorRegiment" (368 : Nat) "TailorRegiment$Sight" "days" "I" "TailorRegiment") ∈ lw_tbl := lw_at lw_m6 34 rfl
theorem q1350 : (Jvm.Cond.fieldLinkNest "TailorRegiment" (371 : Nat) "TailorRegiment$Sight" "is" "Z" "TailorRegiment") ∈ lw_tbl := lw_at lw_m6 37 rfl
theorem q1352 : (Jvm.Cond.fieldLinkNest "TailorRegiment" (348 : Nat) "TailorRegiment$Sight" "untold" "I" "TailorRegiment") ∈ lw_tbl := lw_at lw_m6 39 rfl
theorem q1363 : (Jvm.Cond.instanceMethod ({ cls := "TailorRegiment", name := "untell", desc := "(I)Z" } : Jvm.MethodName)) ∈ lw_all := lw_g (lw_at lw_m6 50 rfl) rfl
theorem q1364 : (Jvm.Cond.selects "TailorRegiment" ({ cls := "TailorRegiment", name := "untell", desc := "(I)Z" } : Jvm.MethodName) ({ cls := "TailorRegiment", name := "untell", desc := "(I)Z" } : Jvm.MethodName)) ∈ lw_all := lw_g (lw_at lw_m6 51 rfl) rfl
theorem q1365 : (Jvm.Cond.code ({ cls := "TailorRegiment", name := "untell", desc := "(I)Z" } : Jvm.MethodName) prog_1_method_64_code (2 : Nat) (Option.some Jvm.ClassFile.FieldType.boolean)) ∈ lw_all := lw_g (lw_at lw_m6 52 rfl) rfl
theorem q1367 : (Jvm.Cond.instanceMethod ({ cls := "TailorRegiment", name := "later", desc := "(I)I" } : Jvm.MethodName)) ∈ lw_all := lw_g (lw_at lw_m6 54 rfl) rfl
theorem q1368 : (Jvm.Cond.selects "TailorRegiment" ({ cls := "TailorRegiment", name := "later", desc := "(I)I" } : Jvm.MethodName) ({ cls := "TailorRegiment", name := "later", desc := "(I)I" } : Jvm.MethodName)) ∈ lw_all := lw_g (lw_at lw_m6 55 rfl) rfl
theorem q1369 : (Jvm.Cond.code ({ cls := "TailorRegiment", name := "later", desc := "(I)I" } : Jvm.MethodName) prog_1_method_65_code (2 : Nat) (Option.some Jvm.ClassFile.FieldType.int)) ∈ lw_all := lw_g (lw_at lw_m6 56 rfl) rfl
theorem q1370 : (Jvm.Cond.constant "TailorRegiment" (351 : Nat) (100000 : Int32)) ∈ lw_all := lw_g (lw_at lw_m6 57 rfl) rfl
theorem q1372 : (Jvm.Cond.instanceMethod ({ cls := "TailorRegiment", name := "growths", desc := "(I)I" } : Jvm.MethodName)) ∈ lw_all := lw_g (lw_at lw_m6 59 rfl) rfl
theorem q1373 : (Jvm.Cond.selects "TailorRegiment" ({ cls := "TailorRegiment", name := "growths", desc := "(I)I" } : Jvm.MethodName) ({ cls := "TailorRegiment", name := "growths", desc := "(I)I" } : Jvm.MethodName)) ∈ lw_all := lw_g (lw_at lw_m6 60 rfl) rfl
theorem q1374 : (Jvm.Cond.code ({ cls := "TailorRegiment", name := "growths", desc := "(I)I" } : Jvm.MethodName) prog_1_method_68_code (4 : Nat) (Option.some Jvm.ClassFile.FieldType.int)) ∈ lw_all := lw_g (lw_at lw_m6 61 rfl) rfl
theorem q1375 : (Jvm.Cond.methodLink "TailorRegiment" (375 : Nat) ({ cls := "TailorRegiment", name := "layFits", desc := "()V" } : Jvm.MethodName)) ∈ lw_all := lw_g (lw_at lw_m6 62 rfl) rfl
theorem q1376 : (Jvm.Cond.privateMethod ({ cls := "TailorRegiment", name := "layFits", desc := "()V" } : Jvm.MethodName)) ∈ lw_tbl := lw_at lw_m6 63 rfl
theorem q1377 : (Jvm.Cond.instanceMethod ({ cls := "TailorRegiment", name := "layFits", desc := "()V" } : Jvm.MethodName)) ∈ lw_all := lw_g (lw_at lw_m6 64 rfl) rfl
theorem q1378 : (Jvm.Cond.code ({ cls := "TailorRegiment", name := "layFits", desc := "()V" } : Jvm.MethodName) prog_1_method_66_code (3 : Nat) (Option.none : Option Jvm.ClassFile.FieldType)) ∈ lw_all := lw_g (lw_at lw_m6 65 rfl) rfl
theorem q1379 : (Jvm.Cond.methodLink "TailorRegiment" (378 : Nat) ({ cls := "TailorRegiment", name := "isSo", desc := "(II)Z" } : Jvm.MethodName)) ∈ lw_all := lw_g (lw_at lw_m6 66 rfl) rfl
theorem q1380 : (Jvm.Cond.privateMethod ({ cls := "TailorRegiment", name := "isSo", desc := "(II)Z" } : Jvm.MethodName)) ∈ lw_tbl := lw_at lw_m6 67 rfl
theorem q1381 : (Jvm.Cond.instanceMethod ({ cls := "TailorRegiment", name := "isSo", desc := "(II)Z" } : Jvm.MethodName)) ∈ lw_all := lw_g (lw_at lw_m6 68 rfl) rfl
theorem q1382 : (Jvm.Cond.code ({ cls := "TailorRegiment", name := "isSo", desc := "(II)Z" } : Jvm.MethodName) prog_1_method_67_code (5 : Nat) (Option.some Jvm.ClassFile.FieldType.boolean)) ∈ lw_all := lw_g (lw_at lw_m6 69 rfl) rfl
theorem q1383 : (Jvm.Cond.methodLink "TailorRegiment" (352 : Nat) ({ cls := "java/util/ArrayList", name := "iterator", desc := "()Ljava/util/Iterator;" } : Jvm.MethodName)) ∈ lw_all := lw_g (lw_at lw_m6 70 rfl) rfl
theorem q1384 : (Jvm.Cond.interfaceEntry "TailorRegiment" (356 : Nat)) ∈ lw_tbl := lw_at lw_m6 71 rfl
theorem q1385 : (Jvm.Cond.methodLink "TailorRegiment" (356 : Nat) ({ cls := "java/util/Iterator", name := "hasNext", desc := "()Z" } : Jvm.MethodName)) ∈ lw_all := lw_g (lw_at lw_m6 72 rfl) rfl
theorem q1386 : (Jvm.Cond.interfaceEntry "TailorRegiment" (361 : Nat)) ∈ lw_tbl := lw_at lw_m6 73 rfl
theorem q1387 : (Jvm.Cond.methodLink "TailorRegiment" (361 : Nat) ({ cls := "java/util/Iterator", name := "next", desc := "()Ljava/lang/Object;" } : Jvm.MethodName)) ∈ lw_all := lw_g (lw_at lw_m6 74 rfl) rfl
theorem q1388 : (Jvm.Cond.methodLink "TailorRegiment" (365 : Nat) ({ cls := "TailorRegiment$Sight", name := "counts", desc := "(I)Z" } : Jvm.MethodName)) ∈ lw_all := lw_g (lw_at lw_m6 75 rfl) rfl
theorem q1393 : (Jvm.Cond.instanceMethod ({ cls := "TailorRegiment", name := "sure", desc := "(II)I" } : Jvm.MethodName)) ∈ lw_all := lw_g (lw_at lw_m6 80 rfl) rfl
theorem q1394 : (Jvm.Cond.selects "TailorRegiment" ({ cls := "TailorRegiment", name := "sure", desc := "(II)I" } : Jvm.MethodName) ({ cls := "TailorRegiment", name := "sure", desc := "(II)I" } : Jvm.MethodName)) ∈ lw_all := lw_g (lw_at lw_m6 81 rfl) rfl
theorem q1395 : (Jvm.Cond.code ({ cls := "TailorRegiment", name := "sure", desc := "(II)I" } : Jvm.MethodName) prog_1_method_69_code (4 : Nat) (Option.some Jvm.ClassFile.FieldType.int)) ∈ lw_all := lw_g (lw_at lw_m6 82 rfl) rfl
theorem q1396 : (Jvm.Cond.methodLink "TailorRegiment" (381 : Nat) ({ cls := "TailorRegiment", name := "growths", desc := "(I)I" } : Jvm.MethodName)) ∈ lw_all := lw_g (lw_at lw_m6 83 rfl) rfl
theorem q1398 : (Jvm.Cond.instanceMethod ({ cls := "TailorRegiment", name := "ask", desc := "(II)I" } : Jvm.MethodName)) ∈ lw_all := lw_g (lw_at lw_m6 85 rfl) rfl
theorem q1399 : (Jvm.Cond.selects "TailorRegiment" ({ cls := "TailorRegiment", name := "ask", desc := "(II)I" } : Jvm.MethodName) ({ cls := "TailorRegiment", name := "ask", desc := "(II)I" } : Jvm.MethodName)) ∈ lw_all := lw_g (lw_at lw_m6 86 rfl) rfl
theorem q1400 : (Jvm.Cond.code ({ cls := "TailorRegiment", name := "ask", desc := "(II)I" } : Jvm.MethodName) prog_1_method_71_code (5 : Nat) (Option.some Jvm.ClassFile.FieldType.int)) ∈ lw_all := lw_g (lw_at lw_m6 87 rfl) rfl
theorem q1401 : (Jvm.Cond.methodLink "TailorRegiment" (384 : Nat) ({ cls := "TailorRegiment", name := "mostBy", desc := "(II)I" } : Jvm.MethodName)) ∈ lw_all := lw_g (lw_at lw_m6 88 rfl) rfl
theorem q1402 : (Jvm.Cond.privateMethod ({ cls := "TailorRegiment", name := "mostBy", desc := "(II)I" } : Jvm.MethodName)) ∈ lw_tbl := lw_at lw_m6 89 rfl
theorem q1403 : (Jvm.Cond.instanceMethod ({ cls := "TailorRegiment", name := "mostBy", desc := "(II)I" } : Jvm.MethodName)) ∈ lw_all := lw_g (lw_at lw_m6 90 rfl) rfl
theorem q1404 : (Jvm.Cond.code ({ cls := "TailorRegiment", name := "mostBy", desc := "(II)I" } : Jvm.MethodName) prog_1_method_70_code (6 : Nat) (Option.some Jvm.ClassFile.FieldType.int)) ∈ lw_all := lw_g (lw_at lw_m6 91 rfl) rfl
theorem q1406 : (Jvm.Cond.instanceMethod ({ cls := "TailorRegiment", name := "image", desc := "(I)I" } : Jvm.MethodName)) ∈ lw_all := lw_g (lw_at lw_m6 93 rfl) rfl
theorem q1407 : (Jvm.Cond.selects "TailorRegiment" ({ cls := "TailorRegiment", name := "image", desc := "(I)I" } : Jvm.MethodName) ({ cls := "TailorRegiment", name := "image", desc := "(I)I" } : Jvm.MethodName)) ∈ lw_all := lw_g (lw_at lw_m6 94 rfl) rfl
theorem q1408 : (Jvm.Cond.code ({ cls := "TailorRegiment", name := "image", desc := "(I)I" } : Jvm.MethodName) prog_1_method_72_code (2 : Nat) (Option.some Jvm.ClassFile.FieldType.int)) ∈ lw_all := lw_g (lw_at lw_m6 95 rfl) rfl
theorem q1410 : (Jvm.Cond.instanceMethod ({ cls := "TailorRegiment", name := "back", desc := "(I)I" } : Jvm.MethodName)) ∈ lw_all := lw_g (lw_at lw_m6 97 rfl) rfl
theorem q1411 : (Jvm.Cond.selects "TailorRegiment" ({ cls := "TailorRegiment", name := "back", desc := "(I)I" } : Jvm.MethodName) ({ cls := "TailorRegiment", name := "back", desc := "(I)I" } : Jvm.MethodName)) ∈ lw_all := lw_g (lw_at lw_m6 98 rfl) rfl
theorem q1412 : (Jvm.Cond.code ({ cls := "TailorRegiment", name := "back", desc := "(I)I" } : Jvm.MethodName) prog_1_method_73_code (2 : Nat) (Option.some Jvm.ClassFile.FieldType.int)) ∈ lw_all := lw_g (lw_at lw_m6 99 rfl) rfl
theorem q1414 : (Jvm.Cond.instanceMethod ({ cls := "TailorRegiment", name := "about", desc := "(I)I" } : Jvm.MethodName)) ∈ lw_all := lw_g (lw_at lw_m6 101 rfl) rfl
theorem q1415 : (Jvm.Cond.selects "TailorRegiment" ({ cls := "TailorRegiment", name := "about", desc := "(I)I" } : Jvm.MethodName) ({ cls := "TailorRegiment", name := "about", desc := "(I)I" } : Jvm.MethodName)) ∈ lw_all := lw_g (lw_at lw_m6 102 rfl) rfl
theorem q1416 : (Jvm.Cond.code ({ cls := "TailorRegiment", name := "about", desc := "(I)I" } : Jvm.MethodName) prog_1_method_74_code (2 : Nat) (Option.some Jvm.ClassFile.FieldType.int)) ∈ lw_all := lw_g (lw_at lw_m6 103 rfl) rfl
theorem q2169 : (Jvm.Cond.castable "TailorRegiment" "java/lang/Object") ∈ lw_tbl := lw_at lw_m9 136 rfl
theorem q115 : (Jvm.Cond.initialized "TailorRegiment$Regiment") ∈ lw_all := lw_g (lw_at lw_m1 2 rfl) rfl
theorem q158 : (Jvm.Cond.instantiable "TailorRegiment$Regiment" (15 : Nat)) ∈ lw_all := lw_g (lw_at lw_m1 45 rfl) rfl
theorem q160 : (Jvm.Cond.instanceMethod ({ cls := "TailorRegiment$Regiment", name := "<init>", desc := "()V" } : Jvm.MethodName)) ∈ lw_all := lw_g (lw_at lw_m1 47 rfl) rfl
theorem q161 : (Jvm.Cond.code ({ cls := "TailorRegiment$Regiment", name := "<init>", desc := "()V" } : Jvm.MethodName) prog_13_method_1_code (1 : Nat) (Option.none : Option Jvm.ClassFile.FieldType)) ∈ lw_all := lw_g (lw_at lw_m1 48 rfl) rfl
theorem q162 : (Jvm.Cond.methodLink "TailorRegiment$Regiment" (3 : Nat) ({ cls := "java/lang/Object", name := "<init>", desc := "()V" } : Jvm.MethodName)) ∈ lw_all := lw_g (lw_at lw_m1 49 rfl) rfl
theorem q163 : (Jvm.Cond.classLink "TailorRegiment$Regiment" (9 : Nat) "java/util/ArrayList") ∈ lw_all := lw_g (lw_at lw_m1 50 rfl) rfl
theorem q165 : (Jvm.Cond.methodLink "TailorRegiment$Regiment" (11 : Nat) ({ cls := "java/util/ArrayList", name := "<init>", desc := "()V" } : Jvm.MethodName)) ∈ lw_all := lw_g (lw_at lw_m1 52 rfl) rfl
theorem q192 : (Jvm.Cond.fieldLink "TailorRegiment$Regiment" (12 : Nat) "TailorRegiment$Regiment" "men" "Ljava/util/ArrayList;") ∈ lw_all := lw_g (lw_at lw_m1 79 rfl) rfl
theorem q196 : (Jvm.Cond.fieldLink "TailorRegiment$Regiment" (18 : Nat) "TailorRegiment$Regiment" "coats" "Ljava/util/ArrayList;") ∈ lw_all := lw_g (lw_at lw_m1 83 rfl) rfl
theorem q200 : (Jvm.Cond.fieldLink "TailorRegiment$Regiment" (60 : Nat) "TailorRegiment$Regiment" "ill" "LTailorRegiment$Part;") ∈ lw_all := lw_g (lw_at lw_m1 87 rfl) rfl
theorem q209 : (Jvm.Cond.fieldLink "TailorRegiment$Regiment" (21 : Nat) "TailorRegiment$Regiment" "easy" "I") ∈ lw_all := lw_g (lw_at lw_m1 96 rfl) rfl
theorem q212 : (Jvm.Cond.fieldLink "TailorRegiment$Regiment" (25 : Nat) "TailorRegiment$Regiment" "bolt" "I") ∈ lw_all := lw_g (lw_at lw_m1 99 rfl) rfl
theorem q215 : (Jvm.Cond.fieldLink "TailorRegiment$Regiment" (28 : Nat) "TailorRegiment$Regiment" "like" "I") ∈ lw_all := lw_g (lw_at lw_m1 102 rfl) rfl
theorem q223 : (Jvm.Cond.fieldLink "TailorRegiment$Regiment" (31 : Nat) "TailorRegiment$Regiment" "told" "[I") ∈ lw_all := lw_g (lw_at lw_m1 110 rfl) rfl
theorem q224 : (Jvm.Cond.laysFinal "TailorRegiment$Regiment" "TailorRegiment$Regiment" "men" "Ljava/util/ArrayList;") ∈ lw_all := lw_g (lw_at lw_m1 111 rfl) rfl
theorem q225 : (Jvm.Cond.soleField "TailorRegiment$Regiment" "men") ∈ lw_all := lw_g (lw_at lw_m1 112 rfl) rfl
theorem q226 : (Jvm.Cond.laysFinal "TailorRegiment$Regiment" "TailorRegiment$Regiment" "coats" "Ljava/util/ArrayList;") ∈ lw_all := lw_g (lw_at lw_m1 113 rfl) rfl
theorem q227 : (Jvm.Cond.soleField "TailorRegiment$Regiment" "coats") ∈ lw_all := lw_g (lw_at lw_m1 114 rfl) rfl
theorem q228 : (Jvm.Cond.lays "TailorRegiment$Regiment" "TailorRegiment$Regiment" "ill" "LTailorRegiment$Part;") ∈ lw_all := lw_g (lw_at lw_m1 115 rfl) rfl
theorem q229 : (Jvm.Cond.soleField "TailorRegiment$Regiment" "ill") ∈ lw_all := lw_g (lw_at lw_m1 116 rfl) rfl
theorem q230 : (Jvm.Cond.lays "TailorRegiment$Regiment" "TailorRegiment$Regiment" "hasEasy" "Z") ∈ lw_all := lw_g (lw_at lw_m1 117 rfl) rfl
theorem q231 : (Jvm.Cond.soleField "TailorRegiment$Regiment" "hasEasy") ∈ lw_all := lw_g (lw_at lw_m1 118 rfl) rfl
theorem q232 : (Jvm.Cond.lays "TailorRegiment$Regiment" "TailorRegiment$Regiment" "hasBolt" "Z") ∈ lw_all := lw_g (lw_at lw_m1 119 rfl) rfl
theorem q233 : (Jvm.Cond.soleField "TailorRegiment$Regiment" "hasBolt") ∈ lw_all := lw_g (lw_at lw_m1 120 rfl) rfl
theorem q234 : (Jvm.Cond.lays "TailorRegiment$Regiment" "TailorRegiment$Regiment" "hasLike" "Z") ∈ lw_all := lw_g (lw_at lw_m1 121 rfl) rfl
theorem q235 : (Jvm.Cond.soleField "TailorRegiment$Regiment" "hasLike") ∈ lw_all := lw_g (lw_at lw_m1 122 rfl) rfl
theorem q236 : (Jvm.Cond.lays "TailorRegiment$Regiment" "TailorRegiment$Regiment" "hasRain" "Z") ∈ lw_all := lw_g (lw_at lw_m1 123 rfl) rfl
theorem q237 : (Jvm.Cond.soleField "TailorRegiment$Regiment" "hasRain") ∈ lw_all := lw_g (lw_at lw_m1 124 rfl) rfl
theorem q238 : (Jvm.Cond.lays "TailorRegiment$Regiment" "TailorRegiment$Regiment" "hasDraw" "Z") ∈ lw_all := lw_g (lw_at lw_m1 125 rfl) rfl
theorem q239 : (Jvm.Cond.soleField "TailorRegiment$Regiment" "hasDraw") ∈ lw_all := lw_g (lw_at lw_m1 126 rfl) rfl
theorem q240 : (Jvm.Cond.lays "TailorRegiment$Regiment" "TailorRegiment$Regiment" "units" "I") ∈ lw_all := lw_g (lw_at lw_m1 127 rfl) rfl
theorem q241 : (Jvm.Cond.soleField "TailorRegiment$Regiment" "units") ∈ lw_all := lw_g (lw_at lw_m1 128 rfl) rfl
theorem q242 : (Jvm.Cond.lays "TailorRegiment$Regiment" "TailorRegiment$Regiment" "easy" "I") ∈ lw_all := lw_g (lw_at lw_m1 129 rfl) rfl
theorem q243 : (Jvm.Cond.soleField "TailorRegiment$Regiment" "easy") ∈ lw_all := lw_g (lw_at lw_m1 130 rfl) rfl
theorem q244 : (Jvm.Cond.lays "TailorRegiment$Regiment" "TailorRegiment$Regiment" "bolt" "I") ∈ lw_all := lw_g (lw_at lw_m1 131 rfl) rfl
theorem q245 : (Jvm.Cond.soleField "TailorRegiment$Regiment" "bolt") ∈ lw_all := lw_g (lw_at lw_m1 132 rfl) rfl
theorem q246 : (Jvm.Cond.lays "TailorRegiment$Regiment" "TailorRegiment$Regiment" "like" "I") ∈ lw_all := lw_g (lw_at lw_m1 133 rfl) rfl
theorem q247 : (Jvm.Cond.soleField "TailorRegiment$Regiment" "like") ∈ lw_all := lw_g (lw_at lw_m1 134 rfl) rfl
theorem q248 : (Jvm.Cond.lays "TailorRegiment$Regiment" "TailorRegiment$Regiment" "rain" "I") ∈ lw_all := lw_g (lw_at lw_m1 135 rfl) rfl
theorem q249 : (Jvm.Cond.soleField "TailorRegiment$Regiment" "rain") ∈ lw_all := lw_g (lw_at lw_m1 136 rfl) rfl
theorem q250 : (Jvm.Cond.lays "TailorRegiment$Regiment" "TailorRegiment$Regiment" "draw" "I") ∈ lw_all := lw_g (lw_at lw_m1 137 rfl) rfl
theorem q251 : (Jvm.Cond.soleField "TailorRegiment$Regiment" "draw") ∈ lw_all := lw_g (lw_at lw_m1 138 rfl) rfl
theorem q252 : (Jvm.Cond.laysFinal "TailorRegiment$Regiment" "TailorRegiment$Regiment" "told" "[I") ∈ lw_all := lw_g (lw_at lw_m1 139 rfl) rfl
theorem q253 : (Jvm.Cond.soleField "TailorRegiment$Regiment" "told") ∈ lw_all := lw_g (lw_at lw_m1 140 rfl) rfl
theorem q254 : (Jvm.Cond.superclass "TailorRegiment$Regiment" "java/lang/Object") ∈ lw_all := lw_g (lw_at lw_m1 141 rfl) rfl
theorem q263 : (Jvm.Cond.fieldLinkNest "TailorRegiment$Regiment" (35 : Nat) "TailorRegiment$State" "girth" "[I" "TailorRegiment") ∈ lw_tbl := lw_at lw_m1 150 rfl
theorem q268 : (Jvm.Cond.fieldLinkNest "TailorRegiment$Regiment" (58 : Nat) "TailorRegiment$State" "tall" "[I" "TailorRegiment") ∈ lw_tbl := lw_at lw_m1 155 rfl
theorem q271 : (Jvm.Cond.fieldLinkNest "TailorRegiment$Regiment" (40 : Nat) "TailorRegiment$State" "wide" "[I" "TailorRegiment") ∈ lw_tbl := lw_at lw_m1 158 rfl
theorem q276 : (Jvm.Cond.fieldLinkNest "TailorRegiment$Regiment" (64 : Nat) "TailorRegiment$State" "worn" "[I" "TailorRegiment") ∈ lw_tbl := lw_at lw_m1 163 rfl
theorem q281 : (Jvm.Cond.fieldLinkNest "TailorRegiment$Regiment" (70 : Nat) "TailorRegiment$State" "day" "I" "TailorRegiment") ∈ lw_tbl := lw_at lw_m1 168 rfl
theorem q760 : (Jvm.Cond.fieldLink "TailorRegiment$Regiment" (55 : Nat) "TailorRegiment$Man" "tall" "I") ∈ lw_all := lw_g (lw_at lw_m3 167 rfl) rfl
theorem q844 : (Jvm.Cond.selects "TailorRegiment$Regiment" ({ cls := "java/lang/Object", name := "getClass", desc := "()Ljava/lang/Class;" } : Jvm.MethodName) ({ cls := "java/lang/Object", name := "getClass", desc := "()Ljava/lang/Class;" } : Jvm.MethodName)) ∈ lw_all := lw_g (lw_at lw_m4 11 rfl) rfl
theorem q1013 : (Jvm.Cond.instanceMethod ({ cls := "TailorRegiment$Regiment", name := "fits", desc := "(LTailorRegiment$State;II)Z" } : Jvm.MethodName)) ∈ lw_all := lw_g (lw_at lw_m4 180 rfl) rfl
theorem q1014 : (Jvm.Cond.selects "TailorRegiment$Regiment" ({ cls := "TailorRegiment$Regiment", name := "fits", desc := "(LTailorRegiment$State;II)Z" } : Jvm.MethodName) ({ cls := "TailorRegiment$Regiment", name := "fits", desc := "(LTailorRegiment$State;II)Z" } : Jvm.MethodName)) ∈ lw_all := lw_g (lw_at lw_m4 181 rfl) rfl
theorem q1015 : (Jvm.Cond.code ({ cls := "TailorRegiment$Regiment", name := "fits", desc := "(LTailorRegiment$State;II)Z" } : Jvm.MethodName) prog_13_method_3_code (4 : Nat) (Option.some Jvm.ClassFile.FieldType.boolean)) ∈ lw_all := lw_g (lw_at lw_m4 182 rfl) rfl
theorem q1016 : (Jvm.Cond.methodLink "TailorRegiment$Regiment" (82 : Nat) ({ cls := "TailorRegiment$Regiment", name := "misfit", desc := "(LTailorRegiment$State;II)I" } : Jvm.MethodName)) ∈ lw_all := lw_g (lw_at lw_m4 183 rfl) rfl
theorem q1017 : (Jvm.Cond.instanceMethod ({ cls := "TailorRegiment$Regiment", name := "misfit", desc := "(LTailorRegiment$State;II)I" } : Jvm.MethodName)) ∈ lw_all := lw_g (lw_at lw_m4 184 rfl) rfl
theorem q1018 : (Jvm.Cond.selects "TailorRegiment$Regiment" ({ cls := "TailorRegiment$Regiment", name := "misfit", desc := "(LTailorRegiment$State;II)I" } : Jvm.MethodName) ({ cls := "TailorRegiment$Regiment", name := "misfit", desc := "(LTailorRegiment$State;II)I" } : Jvm.MethodName)) ∈ lw_all := lw_g (lw_at lw_m4 185 rfl) rfl
theorem q1019 : (Jvm.Cond.code ({ cls := "TailorRegiment$Regiment", name := "misfit", desc := "(LTailorRegiment$State;II)I" } : Jvm.MethodName) prog_13_method_2_code (8 : Nat) (Option.some Jvm.ClassFile.FieldType.int)) ∈ lw_all := lw_g (lw_at lw_m4 186 rfl) rfl
theorem q1020 : (Jvm.Cond.methodLink "TailorRegiment$Regiment" (43 : Nat) ({ cls := "java/lang/Math", name := "max", desc := "(II)I" } : Jvm.MethodName)) ∈ lw_all := lw_g (lw_at lw_m4 187 rfl) rfl
theorem q1021 : (Jvm.Cond.methodLink "TailorRegiment$Regiment" (49 : Nat) ({ cls := "java/util/ArrayList", name := "get", desc := "(I)Ljava/lang/Object;" } : Jvm.MethodName)) ∈ lw_all := lw_g (lw_at lw_m4 188 rfl) rfl
theorem q1022 : (Jvm.Cond.classLink "TailorRegiment$Regiment" (53 : Nat) "TailorRegiment$Man") ∈ lw_all := lw_g (lw_at lw_m4 189 rfl) rfl
theorem q1023 : (Jvm.Cond.methodLink "TailorRegiment$Regiment" (67 : Nat) ({ cls := "java/lang/Math", name := "min", desc := "(II)I" } : Jvm.MethodName)) ∈ lw_all := lw_g (lw_at lw_m4 190 rfl) rfl
theorem q1024 : (Jvm.Cond.methodLink "TailorRegiment$Regiment" (73 : Nat) ({ cls := "TailorRegiment$Part", name := "of", desc := "([I)I" } : Jvm.MethodName)) ∈ lw_all := lw_g (lw_at lw_m4 191 rfl) rfl
theorem q1044 : (Jvm.Cond.methodLinkNest "TailorRegiment$Regiment" (79 : Nat) ({ cls := "TailorRegiment", name := "within", desc := "(II)I" } : Jvm.MethodName) "TailorRegiment") ∈ lw_tbl := lw_at lw_m4 211 rfl
theorem q2170 : (Jvm.Cond.castable "TailorRegiment$Regiment" "java/lang/Object") ∈ lw_tbl := lw_at lw_m9 137 rfl
theorem q119 : (Jvm.Cond.initialized "TailorRegiment$State") ∈ lw_all := lw_g (lw_at lw_m1 6 rfl) rfl
theorem q193 : (Jvm.Cond.fieldLinkNest "TailorRegiment$State" (46 : Nat) "TailorRegiment$Regiment" "men" "Ljava/util/ArrayList;" "TailorRegiment") ∈ lw_tbl := lw_at lw_m1 80 rfl
theorem q197 : (Jvm.Cond.fieldLinkNest "TailorRegiment$State" (66 : Nat) "TailorRegiment$Regiment" "coats" "Ljava/util/ArrayList;" "TailorRegiment") ∈ lw_tbl := lw_at lw_m1 84 rfl
theorem q218 : (Jvm.Cond.fieldLinkNest "TailorRegiment$State" (104 : Nat) "TailorRegiment$Regiment" "rain" "I" "TailorRegiment") ∈ lw_tbl := lw_at lw_m1 105 rfl
theorem q221 : (Jvm.Cond.fieldLinkNest "TailorRegiment$State" (78 : Nat) "TailorRegiment$Regiment" "draw" "I" "TailorRegiment") ∈ lw_tbl := lw_at lw_m1 108 rfl
theorem q257 : (Jvm.Cond.instantiable "TailorRegiment$State" (9 : Nat)) ∈ lw_all := lw_g (lw_at lw_m1 144 rfl) rfl
theorem q259 : (Jvm.Cond.instanceMethod ({ cls := "TailorRegiment$State", name := "<init>", desc := "()V" } : Jvm.MethodName)) ∈ lw_all := lw_g (lw_at lw_m1 146 rfl) rfl
theorem q260 : (Jvm.Cond.code ({ cls := "TailorRegiment$State", name := "<init>", desc := "()V" } : Jvm.MethodName) prog_15_method_1_code (1 : Nat) (Option.none : Option Jvm.ClassFile.FieldType)) ∈ lw_all := lw_g (lw_at lw_m1 147 rfl) rfl
theorem q261 : (Jvm.Cond.methodLink "TailorRegiment$State" (3 : Nat) ({ cls := "java/lang/Object", name := "<init>", desc := "()V" } : Jvm.MethodName)) ∈ lw_all := lw_g (lw_at lw_m1 148 rfl) rfl
theorem q262 : (Jvm.Cond.fieldLink "TailorRegiment$State" (9 : Nat) "TailorRegiment$State" "girth" "[I") ∈ lw_all := lw_g (lw_at lw_m1 149 rfl) rfl
theorem q265 : (Jvm.Cond.fieldLink "TailorRegiment$State" (15 : Nat) "TailorRegiment$State" "wears" "[I") ∈ lw_all := lw_g (lw_at lw_m1 152 rfl) rfl
theorem q267 : (Jvm.Cond.fieldLink "TailorRegiment$State" (18 : Nat) "TailorRegiment$State" "tall" "[I") ∈ lw_all := lw_g (lw_at lw_m1 154 rfl) rfl
theorem q270 : (Jvm.Cond.fieldLink "TailorRegiment$State" (21 : Nat) "TailorRegiment$State" "wide" "[I") ∈ lw_all := lw_g (lw_at lw_m1 157 rfl) rfl
theorem q273 : (Jvm.Cond.fieldLink "TailorRegiment$State" (24 : Nat) "TailorRegiment$State" "seam" "[I") ∈ lw_all := lw_g (lw_at lw_m1 160 rfl) rfl
theorem q275 : (Jvm.Cond.fieldLink "TailorRegiment$State" (27 : Nat) "TailorRegiment$State" "worn" "[I") ∈ lw_all := lw_g (lw_at lw_m1 162 rfl) rfl
theorem q278 : (Jvm.Cond.fieldLink "TailorRegiment$State" (36 : Nat) "TailorRegiment$State" "turned" "I") ∈ lw_all := lw_g (lw_at lw_m1 165 rfl) rfl
theorem q280 : (Jvm.Cond.fieldLink "TailorRegiment$State" (40 : Nat) "TailorRegiment$State" "day" "I") ∈ lw_all := lw_g (lw_at lw_m1 167 rfl) rfl
theorem q283 : (Jvm.Cond.fieldLink "TailorRegiment$State" (43 : Nat) "TailorRegiment$State" "seed" "I") ∈ lw_all := lw_g (lw_at lw_m1 170 rfl) rfl
theorem q285 : (Jvm.Cond.laysFinal "TailorRegiment$State" "TailorRegiment$State" "girth" "[I") ∈ lw_all := lw_g (lw_at lw_m1 172 rfl) rfl
theorem q286 : (Jvm.Cond.soleField "TailorRegiment$State" "girth") ∈ lw_all := lw_g (lw_at lw_m1 173 rfl) rfl
theorem q287 : (Jvm.Cond.laysFinal "TailorRegiment$State" "TailorRegiment$State" "wears" "[I") ∈ lw_all := lw_g (lw_at lw_m1 174 rfl) rfl
theorem q288 : (Jvm.Cond.soleField "TailorRegiment$State" "wears") ∈ lw_all := lw_g (lw_at lw_m1 175 rfl) rfl
theorem q289 : (Jvm.Cond.laysFinal "TailorRegiment$State" "TailorRegiment$State" "tall" "[I") ∈ lw_all := lw_g (lw_at lw_m1 176 rfl) rfl
theorem q290 : (Jvm.Cond.soleField "TailorRegiment$State" "tall") ∈ lw_all := lw_g (lw_at lw_m1 177 rfl) rfl
theorem q291 : (Jvm.Cond.laysFinal "TailorRegiment$State" "TailorRegiment$State" "wide" "[I") ∈ lw_all := lw_g (lw_at lw_m1 178 rfl) rfl
theorem q292 : (Jvm.Cond.soleField "TailorRegiment$State" "wide") ∈ lw_all := lw_g (lw_at lw_m1 179 rfl) rfl
theorem q293 : (Jvm.Cond.laysFinal "TailorRegiment$State" "TailorRegiment$State" "seam" "[I") ∈ lw_all := lw_g (lw_at lw_m1 180 rfl) rfl
theorem q294 : (Jvm.Cond.soleField "TailorRegiment$State" "seam") ∈ lw_all := lw_g (lw_at lw_m1 181 rfl) rfl
theorem q295 : (Jvm.Cond.laysFinal "TailorRegiment$State" "TailorRegiment$State" "worn" "[I") ∈ lw_all := lw_g (lw_at lw_m1 182 rfl) rfl
theorem q296 : (Jvm.Cond.soleField "TailorRegiment$State" "worn") ∈ lw_all := lw_g (lw_at lw_m1 183 rfl) rfl
theorem q297 : (Jvm.Cond.lays "TailorRegiment$State" "TailorRegiment$State" "turned" "I") ∈ lw_all := lw_g (lw_at lw_m1 184 rfl) rfl
theorem q298 : (Jvm.Cond.soleField "TailorRegiment$State" "turned") ∈ lw_all := lw_g (lw_at lw_m1 185 rfl) rfl
theorem q299 : (Jvm.Cond.lays "TailorRegiment$State" "TailorRegiment$State" "day" "I") ∈ lw_all := lw_g (lw_at lw_m1 186 rfl) rfl
theorem q300 : (Jvm.Cond.soleField "TailorRegiment$State" "day") ∈ lw_all := lw_g (lw_at lw_m1 187 rfl) rfl
theorem q301 : (Jvm.Cond.lays "TailorRegiment$State" "TailorRegiment$State" "seed" "I") ∈ lw_all := lw_g (lw_at lw_m1 188 rfl) rfl
theorem q302 : (Jvm.Cond.soleField "TailorRegiment$State" "seed") ∈ lw_all := lw_g (lw_at lw_m1 189 rfl) rfl
theorem q303 : (Jvm.Cond.superclass "TailorRegiment$State" "java/lang/Object") ∈ lw_all := lw_g (lw_at lw_m1 190 rfl) rfl
theorem q424 : (Jvm.Cond.instanceMethod ({ cls := "TailorRegiment$State", name := "begin", desc := "(LTailorRegiment$Regiment;)V" } : Jvm.MethodName)) ∈ lw_all := lw_g (lw_at lw_m2 71 rfl) rfl
theorem q425 : (Jvm.Cond.selects "TailorRegiment$State" ({ cls := "TailorRegiment$State", name := "begin", desc := "(LTailorRegiment$Regiment;)V" } : Jvm.MethodName) ({ cls := "TailorRegiment$State", name := "begin", desc := "(LTailorRegiment$Regiment;)V" } : Jvm.MethodName)) ∈ lw_all := lw_g (lw_at lw_m2 72 rfl) rfl
theorem q426 : (Jvm.Cond.code ({ cls := "TailorRegiment$State", name := "begin", desc := "(LTailorRegiment$Regiment;)V" } : Jvm.MethodName) prog_15_method_3_code (4 : Nat) (Option.none : Option Jvm.ClassFile.FieldType)) ∈ lw_all := lw_g (lw_at lw_m2 73 rfl) rfl
theorem q427 : (Jvm.Cond.methodLink "TailorRegiment$State" (52 : Nat) ({ cls := "java/util/ArrayList", name := "size", desc := "()I" } : Jvm.MethodName)) ∈ lw_all := lw_g (lw_at lw_m2 74 rfl) rfl
theorem q431 : (Jvm.Cond.methodLink "TailorRegiment$State" (58 : Nat) ({ cls := "java/util/ArrayList", name := "get", desc := "(I)Ljava/lang/Object;" } : Jvm.MethodName)) ∈ lw_all := lw_g (lw_at lw_m2 78 rfl) rfl
theorem q445 : (Jvm.Cond.classLink "TailorRegiment$State" (62 : Nat) "TailorRegiment$Man") ∈ lw_all := lw_g (lw_at lw_m2 92 rfl) rfl
theorem q446 : (Jvm.Cond.classLink "TailorRegiment$State" (69 : Nat) "TailorRegiment$Coat") ∈ lw_all := lw_g (lw_at lw_m2 93 rfl) rfl
theorem q755 : (Jvm.Cond.fieldLinkNest "TailorRegiment$State" (85 : Nat) "TailorRegiment$Man" "grows" "I" "TailorRegiment") ∈ lw_tbl := lw_at lw_m3 162 rfl
theorem q762 : (Jvm.Cond.fieldLink "TailorRegiment$State" (71 : Nat) "TailorRegiment$Coat" "tall" "I") ∈ lw_all := lw_g (lw_at lw_m3 169 rfl) rfl
theorem q766 : (Jvm.Cond.fieldLink "TailorRegiment$State" (64 : Nat) "TailorRegiment$Man" "wide" "I") ∈ lw_all := lw_g (lw_at lw_m3 173 rfl) rfl
theorem q768 : (Jvm.Cond.fieldLink "TailorRegiment$State" (73 : Nat) "TailorRegiment$Coat" "wide" "I") ∈ lw_all := lw_g (lw_at lw_m3 175 rfl) rfl
theorem q846 : (Jvm.Cond.selects "TailorRegiment$State" ({ cls := "java/lang/Object", name := "getClass", desc := "()Ljava/lang/Class;" } : Jvm.MethodName) ({ cls := "java/lang/Object", name := "getClass", desc := "()Ljava/lang/Class;" } : Jvm.MethodName)) ∈ lw_all := lw_g (lw_at lw_m4 13 rfl) rfl
theorem q878 : (Jvm.Cond.fieldLinkNest "TailorRegiment$State" (74 : Nat) "TailorRegiment$Coat" "seam" "I" "TailorRegiment") ∈ lw_tbl := lw_at lw_m4 45 rfl
theorem q880 : (Jvm.Cond.fieldLinkNest "TailorRegiment$State" (76 : Nat) "TailorRegiment$Coat" "worn" "I" "TailorRegiment") ∈ lw_tbl := lw_at lw_m4 47 rfl
theorem q1058 : (Jvm.Cond.instanceMethod ({ cls := "TailorRegiment$State", name := "wearer", desc := "(I)I" } : Jvm.MethodName)) ∈ lw_all := lw_g (lw_at lw_m4 225 rfl) rfl
theorem q1059 : (Jvm.Cond.selects "TailorRegiment$State" ({ cls := "TailorRegiment$State", name := "wearer", desc := "(I)I" } : Jvm.MethodName) ({ cls := "TailorRegiment$State", name := "wearer", desc := "(I)I" } : Jvm.MethodName)) ∈ lw_all := lw_g (lw_at lw_m4 226 rfl) rfl
theorem q1060 : (Jvm.Cond.code ({ cls := "TailorRegiment$State", name := "wearer", desc := "(I)I" } : Jvm.MethodName) prog_15_method_4_code (3 : Nat) (Option.some Jvm.ClassFile.FieldType.int)) ∈ lw_all := lw_g (lw_at lw_m4 227 rfl) rfl
theorem q1087 : (Jvm.Cond.instanceMethod ({ cls := "TailorRegiment$State", name := "of", desc := "(LTailorRegiment$State;)V" } : Jvm.MethodName)) ∈ lw_all := lw_g (lw_at lw_m5 14 rfl) rfl
theorem q1088 : (Jvm.Cond.selects "TailorRegiment$State" ({ cls := "TailorRegiment$State", name := "of", desc := "(LTailorRegiment$State;)V" } : Jvm.MethodName) ({ cls := "TailorRegiment$State", name := "of", desc := "(LTailorRegiment$State;)V" } : Jvm.MethodName)) ∈ lw_all := lw_g (lw_at lw_m5 15 rfl) rfl
theorem q1089 : (Jvm.Cond.code ({ cls := "TailorRegiment$State", name := "of", desc := "(LTailorRegiment$State;)V" } : Jvm.MethodName) prog_15_method_2_code (2 : Nat) (Option.none : Option Jvm.ClassFile.FieldType)) ∈ lw_all := lw_g (lw_at lw_m5 16 rfl) rfl
theorem q1090 : (Jvm.Cond.methodLink "TailorRegiment$State" (30 : Nat) ({ cls := "java/lang/System", name := "arraycopy", desc := "(Ljava/lang/Object;ILjava/lang/Object;II)V" } : Jvm.MethodName)) ∈ lw_all := lw_g (lw_at lw_m5 17 rfl) rfl
theorem q1093 : (Jvm.Cond.instanceMethod ({ cls := "TailorRegiment$State", name := "earnest", desc := "(LTailorRegiment$Regiment;)I" } : Jvm.MethodName)) ∈ lw_all := lw_g (lw_at lw_m5 20 rfl) rfl
theorem q1094 : (Jvm.Cond.selects "TailorRegiment$State" ({ cls := "TailorRegiment$State", name := "earnest", desc := "(LTailorRegiment$Regiment;)I" } : Jvm.MethodName) ({ cls := "TailorRegiment$State", name := "earnest", desc := "(LTailorRegiment$Regiment;)I" } : Jvm.MethodName)) ∈ lw_all := lw_g (lw_at lw_m5 21 rfl) rfl
theorem q1095 : (Jvm.Cond.code ({ cls := "TailorRegiment$State", name := "earnest", desc := "(LTailorRegiment$Regiment;)I" } : Jvm.MethodName) prog_15_method_8_code (2 : Nat) (Option.some Jvm.ClassFile.FieldType.int)) ∈ lw_all := lw_g (lw_at lw_m5 22 rfl) rfl
theorem q1096 : (Jvm.Cond.methodLink "TailorRegiment$State" (107 : Nat) ({ cls := "TailorRegiment$State", name := "goOn", desc := "(LTailorRegiment$Regiment;Z)I" } : Jvm.MethodName)) ∈ lw_all := lw_g (lw_at lw_m5 23 rfl) rfl
theorem q1097 : (Jvm.Cond.instanceMethod ({ cls := "TailorRegiment$State", name := "goOn", desc := "(LTailorRegiment$Regiment;Z)I" } : Jvm.MethodName)) ∈ lw_all := lw_g (lw_at lw_m5 24 rfl) rfl
theorem q1098 : (Jvm.Cond.selects "TailorRegiment$State" ({ cls := "TailorRegiment$State", name := "goOn", desc := "(LTailorRegiment$Regiment;Z)I" } : Jvm.MethodName) ({ cls := "TailorRegiment$State", name := "goOn", desc := "(LTailorRegiment$Regiment;Z)I" } : Jvm.MethodName)) ∈ lw_all := lw_g (lw_at lw_m5 25 rfl) rfl
theorem q1099 : (Jvm.Cond.code ({ cls := "TailorRegiment$State", name := "goOn", desc := "(LTailorRegiment$Regiment;Z)I" } : Jvm.MethodName) prog_15_method_7_code (5 : Nat) (Option.some Jvm.ClassFile.FieldType.int)) ∈ lw_all := lw_g (lw_at lw_m5 26 rfl) rfl
theorem q1100 : (Jvm.Cond.methodLink "TailorRegiment$State" (88 : Nat) ({ cls := "java/lang/Math", name := "min", desc := "(II)I" } : Jvm.MethodName)) ∈ lw_all := lw_g (lw_at lw_m5 27 rfl) rfl
theorem q1101 : (Jvm.Cond.methodLink "TailorRegiment$State" (94 : Nat) ({ cls := "java/lang/Math", name := "max", desc := "(II)I" } : Jvm.MethodName)) ∈ lw_all := lw_g (lw_at lw_m5 28 rfl) rfl
theorem q1102 : (Jvm.Cond.methodLink "TailorRegiment$State" (97 : Nat) ({ cls := "TailorRegiment$State", name := "dressed", desc := "()I" } : Jvm.MethodName)) ∈ lw_all := lw_g (lw_at lw_m5 29 rfl) rfl
theorem q1103 : (Jvm.Cond.instanceMethod ({ cls := "TailorRegiment$State", name := "dressed", desc := "()I" } : Jvm.MethodName)) ∈ lw_all := lw_g (lw_at lw_m5 30 rfl) rfl
theorem q1104 : (Jvm.Cond.selects "TailorRegiment$State" ({ cls := "TailorRegiment$State", name := "dressed", desc := "()I" } : Jvm.MethodName) ({ cls := "TailorRegiment$State", name := "dressed", desc := "()I" } : Jvm.MethodName)) ∈ lw_all := lw_g (lw_at lw_m5 31 rfl) rfl
theorem q1105 : (Jvm.Cond.code ({ cls := "TailorRegiment$State", name := "dressed", desc := "()I" } : Jvm.MethodName) prog_15_method_6_code (3 : Nat) (Option.some Jvm.ClassFile.FieldType.int)) ∈ lw_all := lw_g (lw_at lw_m5 32 rfl) rfl
theorem q1106 : (Jvm.Cond.methodLink "TailorRegiment$State" (100 : Nat) ({ cls := "TailorRegiment$State", name := "fitted", desc := "(LTailorRegiment$Regiment;)I" } : Jvm.MethodName)) ∈ lw_all := lw_g (lw_at lw_m5 33 rfl) rfl
theorem q1107 : (Jvm.Cond.instanceMethod ({ cls := "TailorRegiment$State", name := "fitted", desc := "(LTailorRegiment$Regiment;)I" } : Jvm.MethodName)) ∈ lw_all := lw_g (lw_at lw_m5 34 rfl) rfl
theorem q1108 : (Jvm.Cond.selects "TailorRegiment$State" ({ cls := "TailorRegiment$State", name := "fitted", desc := "(LTailorRegiment$Regiment;)I" } : Jvm.MethodName) ({ cls := "TailorRegiment$State", name := "fitted", desc := "(LTailorRegiment$Regiment;)I" } : Jvm.MethodName)) ∈ lw_all := lw_g (lw_at lw_m5 35 rfl) rfl
theorem q1109 : (Jvm.Cond.code ({ cls := "TailorRegiment$State", name := "fitted", desc := "(LTailorRegiment$Regiment;)I" } : Jvm.MethodName) prog_15_method_5_code (4 : Nat) (Option.some Jvm.ClassFile.FieldType.int)) ∈ lw_all := lw_g (lw_at lw_m5 36 rfl) rfl
theorem q1110 : (Jvm.Cond.methodLink "TailorRegiment$State" (81 : Nat) ({ cls := "TailorRegiment$Regiment", name := "fits", desc := "(LTailorRegiment$State;II)Z" } : Jvm.MethodName)) ∈ lw_all := lw_g (lw_at lw_m5 37 rfl) rfl
theorem q1206 : (Jvm.Cond.instanceMethod ({ cls := "TailorRegiment$State", name := "exchange", desc := "(II)V" } : Jvm.MethodName)) ∈ lw_all := lw_g (lw_at lw_m5 133 rfl) rfl
theorem q1207 : (Jvm.Cond.selects "TailorRegiment$State" ({ cls := "TailorRegiment$State", name := "exchange", desc := "(II)V" } : Jvm.MethodName) ({ cls := "TailorRegiment$State", name := "exchange", desc := "(II)V" } : Jvm.MethodName)) ∈ lw_all := lw_g (lw_at lw_m5 134 rfl) rfl
theorem q1208 : (Jvm.Cond.code ({ cls := "TailorRegiment$State", name := "exchange", desc := "(II)V" } : Jvm.MethodName) prog_15_method_9_code (4 : Nat) (Option.none : Option Jvm.ClassFile.FieldType)) ∈ lw_all := lw_g (lw_at lw_m5 135 rfl) rfl
theorem q2172 : (Jvm.Cond.castable "TailorRegiment$State" "java/lang/Object") ∈ lw_tbl := lw_at lw_m9 139 rfl
theorem q122 : (Jvm.Cond.initialized "TailorRegiment$Wrong") ∈ lw_all := lw_g (lw_at lw_m1 9 rfl) rfl
theorem q305 : (Jvm.Cond.instantiable "TailorRegiment$Wrong" (8 : Nat)) ∈ lw_all := lw_g (lw_at lw_m1 192 rfl) rfl
theorem q306 : (Jvm.Cond.castable "TailorRegiment$Wrong" "TailorRegiment$Wrong") ∈ lw_tbl := lw_at lw_m1 193 rfl
theorem q311 : (Jvm.Cond.selects "TailorRegiment$Wrong" ({ cls := "java/lang/Throwable", name := "fillInStackTrace", desc := "(I)Ljava/lang/Throwable;" } : Jvm.MethodName) ({ cls := "java/lang/Throwable", name := "fillInStackTrace", desc := "(I)Ljava/lang/Throwable;" } : Jvm.MethodName)) ∈ lw_all := lw_g (lw_at lw_m1 198 rfl) rfl
theorem q312 : (Jvm.Cond.selects "TailorRegiment$Wrong" ({ cls := "java/lang/Throwable", name := "fillInStackTrace", desc := "()Ljava/lang/Throwable;" } : Jvm.MethodName) ({ cls := "java/lang/Throwable", name := "fillInStackTrace", desc := "()Ljava/lang/Throwable;" } : Jvm.MethodName)) ∈ lw_all := lw_g (lw_at lw_m1 199 rfl) rfl
theorem q313 : (Jvm.Cond.lays "TailorRegiment$Wrong" "java/lang/Throwable" "cause" "Ljava/lang/Throwable;") ∈ lw_all := lw_g (lw_at lw_m1 200 rfl) rfl
theorem q315 : (Jvm.Cond.lays "TailorRegiment$Wrong" "java/lang/Throwable" "stackTrace" "[Ljava/lang/StackTraceElement;") ∈ lw_all := lw_g (lw_at lw_m1 202 rfl) rfl
theorem q317 : (Jvm.Cond.lays "TailorRegiment$Wrong" "java/lang/Throwable" "suppressedExceptions" "Ljava/util/List;") ∈ lw_all := lw_g (lw_at lw_m1 204 rfl) rfl
theorem q319 : (Jvm.Cond.lays "TailorRegiment$Wrong" "java/lang/Throwable" "detailMessage" "Ljava/lang/String;") ∈ lw_all := lw_g (lw_at lw_m1 206 rfl) rfl
theorem q321 : (Jvm.Cond.lays "TailorRegiment$Wrong" "java/lang/Throwable" "backtrace" "Ljava/lang/Object;") ∈ lw_all := lw_g (lw_at lw_m1 208 rfl) rfl
theorem q342 : (Jvm.Cond.instanceMethod ({ cls := "TailorRegiment$Wrong", name := "<init>", desc := "()V" } : Jvm.MethodName)) ∈ lw_all := lw_g (lw_at lw_m1 229 rfl) rfl
theorem q343 : (Jvm.Cond.code ({ cls := "TailorRegiment$Wrong", name := "<init>", desc := "()V" } : Jvm.MethodName) prog_18_method_1_code (1 : Nat) (Option.none : Option Jvm.ClassFile.FieldType)) ∈ lw_all := lw_g (lw_at lw_m1 230 rfl) rfl
theorem q344 : (Jvm.Cond.methodLink "TailorRegiment$Wrong" (1 : Nat) ({ cls := "java/lang/Exception", name := "<init>", desc := "()V" } : Jvm.MethodName)) ∈ lw_all := lw_g (lw_at lw_m1 231 rfl) rfl
theorem q348 : (Jvm.Cond.fieldLink "TailorRegiment$Wrong" (7 : Nat) "TailorRegiment$Wrong" "kind" "I") ∈ lw_all := lw_g (lw_at lw_m1 235 rfl) rfl
theorem q350 : (Jvm.Cond.fieldLink "TailorRegiment$Wrong" (13 : Nat) "TailorRegiment$Wrong" "place" "I") ∈ lw_all := lw_g (lw_at lw_m1 237 rfl) rfl
theorem q356 : (Jvm.Cond.lays "TailorRegiment$Wrong" "TailorRegiment$Wrong" "kind" "I") ∈ lw_all := lw_g (lw_at lw_m2 3 rfl) rfl
theorem q357 : (Jvm.Cond.soleField "TailorRegiment$Wrong" "kind") ∈ lw_all := lw_g (lw_at lw_m2 4 rfl) rfl
theorem q358 : (Jvm.Cond.lays "TailorRegiment$Wrong" "TailorRegiment$Wrong" "place" "I") ∈ lw_all := lw_g (lw_at lw_m2 5 rfl) rfl
theorem q359 : (Jvm.Cond.soleField "TailorRegiment$Wrong" "place") ∈ lw_all := lw_g (lw_at lw_m2 6 rfl) rfl
theorem q364 : (Jvm.Cond.lays "TailorRegiment$Wrong" "java/lang/Throwable" "depth" "I") ∈ lw_all := lw_g (lw_at lw_m2 11 rfl) rfl
theorem q367 : (Jvm.Cond.superclass "TailorRegiment$Wrong" "java/lang/Exception") ∈ lw_all := lw_g (lw_at lw_m2 14 rfl) rfl
theorem q678 : (Jvm.Cond.instanceMethod ({ cls := "TailorRegiment$Wrong", name := "by", desc := "(II)LTailorRegiment$Wrong;" } : Jvm.MethodName)) ∈ lw_all := lw_g (lw_at lw_m3 85 rfl) rfl
theorem q679 : (Jvm.Cond.selects "TailorRegiment$Wrong" ({ cls := "TailorRegiment$Wrong", name := "by", desc := "(II)LTailorRegiment$Wrong;" } : Jvm.MethodName) ({ cls := "TailorRegiment$Wrong", name := "by", desc := "(II)LTailorRegiment$Wrong;" } : Jvm.MethodName)) ∈ lw_all := lw_g (lw_at lw_m3 86 rfl) rfl
theorem q680 : (Jvm.Cond.code ({ cls := "TailorRegiment$Wrong", name := "by", desc := "(II)LTailorRegiment$Wrong;" } : Jvm.MethodName) prog_18_method_2_code (3 : Nat) (Option.some (Jvm.ClassFile.FieldType.object "TailorRegiment$Wrong"))) ∈ lw_all := lw_g (lw_at lw_m3 87 rfl) rfl
theorem q849 : (Jvm.Cond.selects "TailorRegiment$Wrong" ({ cls := "java/lang/Object", name := "getClass", desc := "()Ljava/lang/Class;" } : Jvm.MethodName) ({ cls := "java/lang/Object", name := "getClass", desc := "()Ljava/lang/Class;" } : Jvm.MethodName)) ∈ lw_all := lw_g (lw_at lw_m4 16 rfl) rfl
theorem q2173 : (Jvm.Cond.castable "TailorRegiment$Wrong" "java/lang/Object") ∈ lw_tbl := lw_at lw_m9 140 rfl
theorem q123 : (Jvm.Cond.initialized "TailorRegiment$Choice") ∈ lw_all := lw_g (lw_at lw_m1 10 rfl) rfl
theorem q377 : (Jvm.Cond.instanceMethod ({ cls := "TailorRegiment$Choice", name := "<init>", desc := "(LTailorRegiment;)V" } : Jvm.MethodName)) ∈ lw_all := lw_g (lw_at lw_m2 24 rfl) rfl
theorem q378 : (Jvm.Cond.code ({ cls := "TailorRegiment$Choice", name := "<init>", desc := "(LTailorRegiment;)V" } : Jvm.MethodName) prog_3_method_1_code (2 : Nat) (Option.none : Option Jvm.ClassFile.FieldType)) ∈ lw_all := lw_g (lw_at lw_m2 25 rfl) rfl
theorem q379 : (Jvm.Cond.methodLink "TailorRegiment$Choice" (9 : Nat) ({ cls := "java/lang/Object", name := "<init>", desc := "()V" } : Jvm.MethodName)) ∈ lw_all := lw_g (lw_at lw_m2 26 rfl) rfl
theorem q383 : (Jvm.Cond.fieldLink "TailorRegiment$Choice" (15 : Nat) "TailorRegiment$Choice" "best" "I") ∈ lw_all := lw_g (lw_at lw_m2 30 rfl) rfl
theorem q384 : (Jvm.Cond.fieldLink "TailorRegiment$Choice" (3 : Nat) "TailorRegiment$Choice" "this$0" "LTailorRegiment;") ∈ lw_all := lw_g (lw_at lw_m2 31 rfl) rfl
theorem q390 : (Jvm.Cond.soleField "TailorRegiment$Choice" "best") ∈ lw_all := lw_g (lw_at lw_m2 37 rfl) rfl
theorem q392 : (Jvm.Cond.soleField "TailorRegiment$Choice" "this$0") ∈ lw_all := lw_g (lw_at lw_m2 39 rfl) rfl
theorem q1227 : (Jvm.Cond.declares ({ cls := "TailorRegiment$Choice", name := "seek", desc := "(I)I" } : Jvm.MethodName)) ∈ lw_tbl := lw_at lw_m5 154 rfl
theorem q1229 : (Jvm.Cond.instanceMethod ({ cls := "TailorRegiment$Choice", name := "seek", desc := "(I)I" } : Jvm.MethodName)) ∈ lw_all := lw_g (lw_at lw_m5 156 rfl) rfl
theorem q1230 : (Jvm.Cond.code ({ cls := "TailorRegiment$Choice", name := "seek", desc := "(I)I" } : Jvm.MethodName) prog_3_method_4_code (3 : Nat) (Option.some Jvm.ClassFile.FieldType.int)) ∈ lw_all := lw_g (lw_at lw_m5 157 rfl) rfl
theorem q1231 : (Jvm.Cond.methodLink "TailorRegiment$Choice" (19 : Nat) ({ cls := "TailorRegiment$Choice", name := "does", desc := "(I)Z" } : Jvm.MethodName)) ∈ lw_all := lw_g (lw_at lw_m5 158 rfl) rfl
theorem q1232 : (Jvm.Cond.declares ({ cls := "TailorRegiment$Choice", name := "does", desc := "(I)Z" } : Jvm.MethodName)) ∈ lw_tbl := lw_at lw_m5 159 rfl
theorem q1233 : (Jvm.Cond.sameMethod "TailorRegiment$Choice" "TailorRegiment$Choice" "does" "(I)Z") ∈ lw_all := lw_g (lw_at lw_m5 160 rfl) rfl
theorem q1248 : (Jvm.Cond.methodLink "TailorRegiment$Choice" (23 : Nat) ({ cls := "TailorRegiment$Choice", name := "cost", desc := "(I)I" } : Jvm.MethodName)) ∈ lw_all := lw_g (lw_at lw_m5 175 rfl) rfl
theorem q1249 : (Jvm.Cond.declares ({ cls := "TailorRegiment$Choice", name := "cost", desc := "(I)I" } : Jvm.MethodName)) ∈ lw_tbl := lw_at lw_m5 176 rfl
theorem q1250 : (Jvm.Cond.sameMethod "TailorRegiment$Choice" "TailorRegiment$Choice" "cost" "(I)I") ∈ lw_all := lw_g (lw_at lw_m5 177 rfl) rfl
theorem q124 : (Jvm.Cond.initialized "TailorRegiment$Front") ∈ lw_all := lw_g (lw_at lw_m1 11 rfl) rfl
theorem q372 : (Jvm.Cond.instantiable "TailorRegiment$Front" (4 : Nat)) ∈ lw_all := lw_g (lw_at lw_m2 19 rfl) rfl
theorem q374 : (Jvm.Cond.instanceMethod ({ cls := "TailorRegiment$Front", name := "<init>", desc := "(LTailorRegiment;)V" } : Jvm.MethodName)) ∈ lw_all := lw_g (lw_at lw_m2 21 rfl) rfl
theorem q375 : (Jvm.Cond.code ({ cls := "TailorRegiment$Front", name := "<init>", desc := "(LTailorRegiment;)V" } : Jvm.MethodName) prog_5_method_1_code (2 : Nat) (Option.none : Option Jvm.ClassFile.FieldType)) ∈ lw_all := lw_g (lw_at lw_m2 22 rfl) rfl
theorem q376 : (Jvm.Cond.methodLinkNest "TailorRegiment$Front" (7 : Nat) ({ cls := "TailorRegiment$Choice", name := "<init>", desc := "(LTailorRegiment;)V" } : Jvm.MethodName) "TailorRegiment") ∈ lw_tbl := lw_at lw_m2 23 rfl
theorem q380 : (Jvm.Cond.fieldLink "TailorRegiment$Front" (19 : Nat) "TailorRegiment$Front" "wide" "I") ∈ lw_all := lw_g (lw_at lw_m2 27 rfl) rfl
theorem q382 : (Jvm.Cond.fieldLink "TailorRegiment$Front" (1 : Nat) "TailorRegiment$Front" "this$0" "LTailorRegiment;") ∈ lw_all := lw_g (lw_at lw_m2 29 rfl) rfl
theorem q385 : (Jvm.Cond.lays "TailorRegiment$Front" "TailorRegiment$Front" "wide" "I") ∈ lw_all := lw_g (lw_at lw_m2 32 rfl) rfl
theorem q386 : (Jvm.Cond.soleField "TailorRegiment$Front" "wide") ∈ lw_all := lw_g (lw_at lw_m2 33 rfl) rfl
theorem q387 : (Jvm.Cond.laysFinal "TailorRegiment$Front" "TailorRegiment$Front" "this$0" "LTailorRegiment;") ∈ lw_all := lw_g (lw_at lw_m2 34 rfl) rfl
theorem q388 : (Jvm.Cond.soleField "TailorRegiment$Front" "this$0") ∈ lw_all := lw_g (lw_at lw_m2 35 rfl) rfl
theorem q389 : (Jvm.Cond.lays "TailorRegiment$Front" "TailorRegiment$Choice" "best" "I") ∈ lw_all := lw_g (lw_at lw_m2 36 rfl) rfl
theorem q391 : (Jvm.Cond.laysFinal "TailorRegiment$Front" "TailorRegiment$Choice" "this$0" "LTailorRegiment;") ∈ lw_all := lw_g (lw_at lw_m2 38 rfl) rfl
theorem q393 : (Jvm.Cond.superclass "TailorRegiment$Front" "TailorRegiment$Choice") ∈ lw_all := lw_g (lw_at lw_m2 40 rfl) rfl
theorem q837 : (Jvm.Cond.selects "TailorRegiment$Front" ({ cls := "java/lang/Object", name := "getClass", desc := "()Ljava/lang/Class;" } : Jvm.MethodName) ({ cls := "java/lang/Object", name := "getClass", desc := "()Ljava/lang/Class;" } : Jvm.MethodName)) ∈ lw_all := lw_g (lw_at lw_m4 4 rfl) rfl
theorem q1226 : (Jvm.Cond.sameMethod "TailorRegiment$Front" "TailorRegiment$Choice" "seek" "(I)I") ∈ lw_all := lw_g (lw_at lw_m5 153 rfl) rfl
theorem q1228 : (Jvm.Cond.selects "TailorRegiment$Front" ({ cls := "TailorRegiment$Front", name := "seek", desc := "(I)I" } : Jvm.MethodName) ({ cls := "TailorRegiment$Choice", name := "seek", desc := "(I)I" } : Jvm.MethodName)) ∈ lw_all := lw_g (lw_at lw_m5 155 rfl) rfl
theorem q1234 : (Jvm.Cond.selects "TailorRegiment$Front" ({ cls := "TailorRegiment$Choice", name := "does", desc := "(I)Z" } : Jvm.MethodName) ({ cls := "TailorRegiment$Front", name := "does", desc := "(I)Z" } : Jvm.MethodName)) ∈ lw_all := lw_g (lw_at lw_m5 161 rfl) rfl
theorem q1235 : (Jvm.Cond.instanceMethod ({ cls := "TailorRegiment$Front", name := "does", desc := "(I)Z" } : Jvm.MethodName)) ∈ lw_all := lw_g (lw_at lw_m5 162 rfl) rfl
theorem q1236 : (Jvm.Cond.code ({ cls := "TailorRegiment$Front", name := "does", desc := "(I)Z" } : Jvm.MethodName) prog_5_method_2_code (2 : Nat) (Option.some Jvm.ClassFile.FieldType.boolean)) ∈ lw_all := lw_g (lw_at lw_m5 163 rfl) rfl
theorem q1237 : (Jvm.Cond.methodLinkNest "TailorRegiment$Front" (13 : Nat) ({ cls := "TailorRegiment", name := "breadthOf", desc := "(I)I" } : Jvm.MethodName) "TailorRegiment") ∈ lw_tbl := lw_at lw_m5 164 rfl
theorem q1251 : (Jvm.Cond.selects "TailorRegiment$Front" ({ cls := "TailorRegiment$Choice", name := "cost", desc := "(I)I" } : Jvm.MethodName) ({ cls := "TailorRegiment$Front", name := "cost", desc := "(I)I" } : Jvm.MethodName)) ∈ lw_all := lw_g (lw_at lw_m5 178 rfl) rfl
theorem q1252 : (Jvm.Cond.instanceMethod ({ cls := "TailorRegiment$Front", name := "cost", desc := "(I)I" } : Jvm.MethodName)) ∈ lw_all := lw_g (lw_at lw_m5 179 rfl) rfl
theorem q1253 : (Jvm.Cond.code ({ cls := "TailorRegiment$Front", name := "cost", desc := "(I)I" } : Jvm.MethodName) prog_5_method_3_code (2 : Nat) (Option.some Jvm.ClassFile.FieldType.int)) ∈ lw_all := lw_g (lw_at lw_m5 180 rfl) rfl
theorem q1254 : (Jvm.Cond.methodLink "TailorRegiment$Front" (23 : Nat) ({ cls := "java/lang/Integer", name := "bitCount", desc := "(I)I" } : Jvm.MethodName)) ∈ lw_all := lw_g (lw_at lw_m5 181 rfl) rfl
theorem q2174 : (Jvm.Cond.castable "TailorRegiment$Front" "java/lang/Object") ∈ lw_tbl := lw_at lw_m9 141 rfl
theorem q125 : (Jvm.Cond.initialized "TailorRegiment$Wing") ∈ lw_all := lw_g (lw_at lw_m1 12 rfl) rfl
theorem q395 : (Jvm.Cond.instantiable "TailorRegiment$Wing" (3 : Nat)) ∈ lw_all := lw_g (lw_at lw_m2 42 rfl) rfl
theorem q397 : (Jvm.Cond.instanceMethod ({ cls := "TailorRegiment$Wing", name := "<init>", desc := "(LTailorRegiment;)V" } : Jvm.MethodName)) ∈ lw_all := lw_g (lw_at lw_m2 44 rfl) rfl
theorem q398 : (Jvm.Cond.code ({ cls := "TailorRegiment$Wing", name := "<init>", desc := "(LTailorRegiment;)V" } : Jvm.MethodName) prog_17_method_1_code (2 : Nat) (Option.none : Option Jvm.ClassFile.FieldType)) ∈ lw_all := lw_g (lw_at lw_m2 45 rfl) rfl
theorem q399 : (Jvm.Cond.methodLinkNest "TailorRegiment$Wing" (7 : Nat) ({ cls := "TailorRegiment$Choice", name := "<init>", desc := "(LTailorRegiment;)V" } : Jvm.MethodName) "TailorRegiment") ∈ lw_tbl := lw_at lw_m2 46 rfl
theorem q400 : (Jvm.Cond.fieldLink "TailorRegiment$Wing" (1 : Nat) "TailorRegiment$Wing" "this$0" "LTailorRegiment;") ∈ lw_all := lw_g (lw_at lw_m2 47 rfl) rfl
theorem q401 : (Jvm.Cond.laysFinal "TailorRegiment$Wing" "TailorRegiment$Wing" "this$0" "LTailorRegiment;") ∈ lw_all := lw_g (lw_at lw_m2 48 rfl) rfl
theorem q402 : (Jvm.Cond.soleField "TailorRegiment$Wing" "this$0") ∈ lw_all := lw_g (lw_at lw_m2 49 rfl) rfl
theorem q403 : (Jvm.Cond.lays "TailorRegiment$Wing" "TailorRegiment$Choice" "best" "I") ∈ lw_all := lw_g (lw_at lw_m2 50 rfl) rfl
theorem q404 : (Jvm.Cond.laysFinal "TailorRegiment$Wing" "TailorRegiment$Choice" "this$0" "LTailorRegiment;") ∈ lw_all := lw_g (lw_at lw_m2 51 rfl) rfl
theorem q405 : (Jvm.Cond.superclass "TailorRegiment$Wing" "TailorRegiment$Choice") ∈ lw_all := lw_g (lw_at lw_m2 52 rfl) rfl
theorem q452 : (Jvm.Cond.fieldLinkNest "TailorRegiment$Wing" (13 : Nat) "TailorRegiment" "now" "LTailorRegiment$State;" "TailorRegiment") ∈ lw_tbl := lw_at lw_m2 99 rfl
theorem q848 : (Jvm.Cond.selects "TailorRegiment$Wing" ({ cls := "java/lang/Object", name := "getClass", desc := "()Ljava/lang/Class;" } : Jvm.MethodName) ({ cls := "java/lang/Object", name := "getClass", desc := "()Ljava/lang/Class;" } : Jvm.MethodName)) ∈ lw_all := lw_g (lw_at lw_m4 15 rfl) rfl
theorem q1241 : (Jvm.Cond.selects "TailorRegiment$Wing" ({ cls := "TailorRegiment$Choice", name := "does", desc := "(I)Z" } : Jvm.MethodName) ({ cls := "TailorRegiment$Wing", name := "does", desc := "(I)Z" } : Jvm.MethodName)) ∈ lw_all := lw_g (lw_at lw_m5 168 rfl) rfl
theorem q1242 : (Jvm.Cond.instanceMethod ({ cls := "TailorRegiment$Wing", name := "does", desc := "(I)Z" } : Jvm.MethodName)) ∈ lw_all := lw_g (lw_at lw_m5 169 rfl) rfl
theorem q1243 : (Jvm.Cond.code ({ cls := "TailorRegiment$Wing", name := "does", desc := "(I)Z" } : Jvm.MethodName) prog_17_method_2_code (2 : Nat) (Option.some Jvm.ClassFile.FieldType.boolean)) ∈ lw_all := lw_g (lw_at lw_m5 170 rfl) rfl
theorem q1244 : (Jvm.Cond.methodLink "TailorRegiment$Wing" (19 : Nat) ({ cls := "TailorRegiment$State", name := "dressed", desc := "()I" } : Jvm.MethodName)) ∈ lw_all := lw_g (lw_at lw_m5 171 rfl) rfl
theorem q1245 : (Jvm.Cond.methodLink "TailorRegiment$Wing" (25 : Nat) ({ cls := "java/lang/Integer", name := "lowestOneBit", desc := "(I)I" } : Jvm.MethodName)) ∈ lw_all := lw_g (lw_at lw_m5 172 rfl) rfl
theorem q1255 : (Jvm.Cond.selects "TailorRegiment$Wing" ({ cls := "TailorRegiment$Choice", name := "cost", desc := "(I)I" } : Jvm.MethodName) ({ cls := "TailorRegiment$Wing", name := "cost", desc := "(I)I" } : Jvm.MethodName)) ∈ lw_all := lw_g (lw_at lw_m5 182 rfl) rfl
theorem q1256 : (Jvm.Cond.instanceMethod ({ cls := "TailorRegiment$Wing", name := "cost", desc := "(I)I" } : Jvm.MethodName)) ∈ lw_all := lw_g (lw_at lw_m5 183 rfl) rfl
theorem q1257 : (Jvm.Cond.code ({ cls := "TailorRegiment$Wing", name := "cost", desc := "(I)I" } : Jvm.MethodName) prog_17_method_3_code (2 : Nat) (Option.some Jvm.ClassFile.FieldType.int)) ∈ lw_all := lw_g (lw_at lw_m5 184 rfl) rfl
theorem q1258 : (Jvm.Cond.methodLinkNest "TailorRegiment$Wing" (31 : Nat) ({ cls := "TailorRegiment", name := "breadthOf", desc := "(I)I" } : Jvm.MethodName) "TailorRegiment") ∈ lw_tbl := lw_at lw_m5 185 rfl
theorem q1259 : (Jvm.Cond.methodLink "TailorRegiment$Wing" (34 : Nat) ({ cls := "java/lang/Math", name := "abs", desc := "(I)I" } : Jvm.MethodName)) ∈ lw_all := lw_g (lw_at lw_m5 186 rfl) rfl
theorem q1267 : (Jvm.Cond.sameMethod "TailorRegiment$Wing" "TailorRegiment$Choice" "seek" "(I)I") ∈ lw_all := lw_g (lw_at lw_m5 194 rfl) rfl
theorem q1268 : (Jvm.Cond.selects "TailorRegiment$Wing" ({ cls := "TailorRegiment$Wing", name := "seek", desc := "(I)I" } : Jvm.MethodName) ({ cls := "TailorRegiment$Choice", name := "seek", desc := "(I)I" } : Jvm.MethodName)) ∈ lw_all := lw_g (lw_at lw_m5 195 rfl) rfl
theorem q2163 : (Jvm.Cond.selects "TailorRegiment$Wing" ({ cls := "TailorRegiment$Wing", name := "cost", desc := "(I)I" } : Jvm.MethodName) ({ cls := "TailorRegiment$Wing", name := "cost", desc := "(I)I" } : Jvm.MethodName)) ∈ lw_all := lw_g (lw_at lw_m9 130 rfl) rfl
theorem q2175 : (Jvm.Cond.castable "TailorRegiment$Wing" "java/lang/Object") ∈ lw_tbl := lw_at lw_m9 142 rfl
theorem q126 : (Jvm.Cond.initialized "TailorRegiment$Kept") ∈ lw_all := lw_g (lw_at lw_m1 13 rfl) rfl
theorem q408 : (Jvm.Cond.instantiable "TailorRegiment$Kept" (1 : Nat)) ∈ lw_all := lw_g (lw_at lw_m2 55 rfl) rfl
theorem q410 : (Jvm.Cond.instanceMethod ({ cls := "TailorRegiment$Kept", name := "<init>", desc := "(LTailorRegiment$State;)V" } : Jvm.MethodName)) ∈ lw_all := lw_g (lw_at lw_m2 57 rfl) rfl
theorem q411 : (Jvm.Cond.code ({ cls := "TailorRegiment$Kept", name := "<init>", desc := "(LTailorRegiment$State;)V" } : Jvm.MethodName) prog_6_method_1_code (2 : Nat) (Option.none : Option Jvm.ClassFile.FieldType)) ∈ lw_all := lw_g (lw_at lw_m2 58 rfl) rfl
theorem q412 : (Jvm.Cond.methodLink "TailorRegiment$Kept" (1 : Nat) ({ cls := "java/lang/Object", name := "<init>", desc := "()V" } : Jvm.MethodName)) ∈ lw_all := lw_g (lw_at lw_m2 59 rfl) rfl
theorem q413 : (Jvm.Cond.fieldLink "TailorRegiment$Kept" (7 : Nat) "TailorRegiment$Kept" "state" "LTailorRegiment$State;") ∈ lw_all := lw_g (lw_at lw_m2 60 rfl) rfl
theorem q415 : (Jvm.Cond.lays "TailorRegiment$Kept" "TailorRegiment$Kept" "state" "LTailorRegiment$State;") ∈ lw_all := lw_g (lw_at lw_m2 62 rfl) rfl
theorem q416 : (Jvm.Cond.soleField "TailorRegiment$Kept" "state") ∈ lw_all := lw_g (lw_at lw_m2 63 rfl) rfl
theorem q417 : (Jvm.Cond.superclass "TailorRegiment$Kept" "java/lang/Object") ∈ lw_all := lw_g (lw_at lw_m2 64 rfl) rfl
theorem q838 : (Jvm.Cond.selects "TailorRegiment$Kept" ({ cls := "java/lang/Object", name := "getClass", desc := "()Ljava/lang/Class;" } : Jvm.MethodName) ({ cls := "java/lang/Object", name := "getClass", desc := "()Ljava/lang/Class;" } : Jvm.MethodName)) ∈ lw_all := lw_g (lw_at lw_m4 5 rfl) rfl
theorem q2167 : (Jvm.Cond.castable "TailorRegiment$Kept" "java/lang/Object") ∈ lw_tbl := lw_at lw_m9 134 rfl
theorem q130 : (Jvm.Cond.initialized "TailorRegiment$Reader") ∈ lw_all := lw_g (lw_at lw_m1 17 rfl) rfl
theorem q195 : (Jvm.Cond.fieldLinkNest "TailorRegiment$Reader" (140 : Nat) "TailorRegiment$Regiment" "men" "Ljava/util/ArrayList;" "TailorRegiment") ∈ lw_tbl := lw_at lw_m1 82 rfl
theorem q199 : (Jvm.Cond.fieldLinkNest "TailorRegiment$Reader" (168 : Nat) "TailorRegiment$Regiment" "coats" "Ljava/util/ArrayList;" "TailorRegiment") ∈ lw_tbl := lw_at lw_m1 86 rfl
theorem q201 : (Jvm.Cond.fieldLinkNest "TailorRegiment$Reader" (252 : Nat) "TailorRegiment$Regiment" "ill" "LTailorRegiment$Part;" "TailorRegiment") ∈ lw_tbl := lw_at lw_m1 88 rfl
theorem q202 : (Jvm.Cond.fieldLinkNest "TailorRegiment$Reader" (257 : Nat) "TailorRegiment$Regiment" "hasEasy" "Z" "TailorRegiment") ∈ lw_tbl := lw_at lw_m1 89 rfl
theorem q203 : (Jvm.Cond.fieldLinkNest "TailorRegiment$Reader" (263 : Nat) "TailorRegiment$Regiment" "hasBolt" "Z" "TailorRegiment") ∈ lw_tbl := lw_at lw_m1 90 rfl
theorem q204 : (Jvm.Cond.fieldLinkNest "TailorRegiment$Reader" (268 : Nat) "TailorRegiment$Regiment" "hasLike" "Z" "TailorRegiment") ∈ lw_tbl := lw_at lw_m1 91 rfl
theorem q205 : (Jvm.Cond.fieldLinkNest "TailorRegiment$Reader" (273 : Nat) "TailorRegiment$Regiment" "hasRain" "Z" "TailorRegiment") ∈ lw_tbl := lw_at lw_m1 92 rfl
theorem q206 : (Jvm.Cond.fieldLinkNest "TailorRegiment$Reader" (278 : Nat) "TailorRegiment$Regiment" "hasDraw" "Z" "TailorRegiment") ∈ lw_tbl := lw_at lw_m1 93 rfl
theorem q207 : (Jvm.Cond.fieldLinkNest "TailorRegiment$Reader" (233 : Nat) "TailorRegiment$Regiment" "units" "I" "TailorRegiment") ∈ lw_tbl := lw_at lw_m1 94 rfl
theorem q210 : (Jvm.Cond.fieldLinkNest "TailorRegiment$Reader" (291 : Nat) "TailorRegiment$Regiment" "easy" "I" "TailorRegiment") ∈ lw_tbl := lw_at lw_m1 97 rfl
theorem q213 : (Jvm.Cond.fieldLinkNest "TailorRegiment$Reader" (293 : Nat) "TailorRegiment$Regiment" "bolt" "I" "TailorRegiment") ∈ lw_tbl := lw_at lw_m1 100 rfl
theorem q216 : (Jvm.Cond.fieldLinkNest "TailorRegiment$Reader" (295 : Nat) "TailorRegiment$Regiment" "like" "I" "TailorRegiment") ∈ lw_tbl := lw_at lw_m1 103 rfl
theorem q219 : (Jvm.Cond.fieldLinkNest "TailorRegiment$Reader" (297 : Nat) "TailorRegiment$Regiment" "rain" "I" "TailorRegiment") ∈ lw_tbl := lw_at lw_m1 106 rfl
theorem q222 : (Jvm.Cond.fieldLinkNest "TailorRegiment$Reader" (299 : Nat) "TailorRegiment$Regiment" "draw" "I" "TailorRegiment") ∈ lw_tbl := lw_at lw_m1 109 rfl
theorem q536 : (Jvm.Cond.instantiable "TailorRegiment$Reader" (11 : Nat)) ∈ lw_all := lw_g (lw_at lw_m2 183 rfl) rfl
theorem q538 : (Jvm.Cond.instanceMethod ({ cls := "TailorRegiment$Reader", name := "<init>", desc := "([BILTailorRegiment$Wrong;)V" } : Jvm.MethodName)) ∈ lw_all := lw_g (lw_at lw_m2 185 rfl) rfl
theorem q539 : (Jvm.Cond.code ({ cls := "TailorRegiment$Reader", name := "<init>", desc := "([BILTailorRegiment$Wrong;)V" } : Jvm.MethodName) prog_12_method_1_code (4 : Nat) (Option.none : Option Jvm.ClassFile.FieldType)) ∈ lw_all := lw_g (lw_at lw_m2 186 rfl) rfl
theorem q540 : (Jvm.Cond.methodLink "TailorRegiment$Reader" (3 : Nat) ({ cls := "java/lang/Object", name := "<init>", desc := "()V" } : Jvm.MethodName)) ∈ lw_all := lw_g (lw_at lw_m2 187 rfl) rfl
theorem q541 : (Jvm.Cond.classLink "TailorRegiment$Reader" (9 : Nat) "TailorRegiment$Regiment") ∈ lw_all := lw_g (lw_at lw_m2 188 rfl) rfl
theorem q542 : (Jvm.Cond.methodLinkNest "TailorRegiment$Reader" (11 : Nat) ({ cls := "TailorRegiment$Regiment", name := "<init>", desc := "()V" } : Jvm.MethodName) "TailorRegiment") ∈ lw_tbl := lw_at lw_m2 189 rfl
theorem q543 : (Jvm.Cond.fieldLink "TailorRegiment$Reader" (18 : Nat) "TailorRegiment$Reader" "text" "[B") ∈ lw_all := lw_g (lw_at lw_m2 190 rfl) rfl
theorem q544 : (Jvm.Cond.fieldLink "TailorRegiment$Reader" (22 : Nat) "TailorRegiment$Reader" "size" "I") ∈ lw_all := lw_g (lw_at lw_m2 191 rfl) rfl
theorem q545 : (Jvm.Cond.fieldLink "TailorRegiment$Reader" (26 : Nat) "TailorRegiment$Reader" "fault" "LTailorRegiment$Wrong;") ∈ lw_all := lw_g (lw_at lw_m2 192 rfl) rfl
theorem q546 : (Jvm.Cond.fieldLink "TailorRegiment$Reader" (12 : Nat) "TailorRegiment$Reader" "\x72" "LTailorRegiment$Regiment;") ∈ lw_all := lw_g (lw_at lw_m2 193 rfl) rfl
theorem q547 : (Jvm.Cond.fieldLink "TailorRegiment$Reader" (33 : Nat) "TailorRegiment$Reader" "at" "I") ∈ lw_all := lw_g (lw_at lw_m2 194 rfl) rfl
theorem q548 : (Jvm.Cond.fieldLink "TailorRegiment$Reader" (30 : Nat) "TailorRegiment$Reader" "end" "I") ∈ lw_all := lw_g (lw_at lw_m2 195 rfl) rfl
theorem q549 : (Jvm.Cond.fieldLink "TailorRegiment$Reader" (40 : Nat) "TailorRegiment$Reader" "token" "I") ∈ lw_all := lw_g (lw_at lw_m2 196 rfl) rfl
theorem q550 : (Jvm.Cond.fieldLink "TailorRegiment$Reader" (63 : Nat) "TailorRegiment$Reader" "number" "I") ∈ lw_all := lw_g (lw_at lw_m2 197 rfl) rfl
theorem q551 : (Jvm.Cond.fieldLink "TailorRegiment$Reader" (59 : Nat) "TailorRegiment$Reader" "name" "J") ∈ lw_all := lw_g (lw_at lw_m2 198 rfl) rfl
theorem q552 : (Jvm.Cond.fieldLink "TailorRegiment$Reader" (183 : Nat) "TailorRegiment$Reader" "deep" "I") ∈ lw_all := lw_g (lw_at lw_m2 199 rfl) rfl
theorem q553 : (Jvm.Cond.fieldLink "TailorRegiment$Reader" (180 : Nat) "TailorRegiment$Reader" "mine" "I") ∈ lw_all := lw_g (lw_at lw_m2 200 rfl) rfl
theorem q554 : (Jvm.Cond.laysFinal "TailorRegiment$Reader" "TailorRegiment$Reader" "text" "[B") ∈ lw_all := lw_g (lw_at lw_m2 201 rfl) rfl
theorem q555 : (Jvm.Cond.soleField "TailorRegiment$Reader" "text") ∈ lw_all := lw_g (lw_at lw_m2 202 rfl) rfl
theorem q556 : (Jvm.Cond.laysFinal "TailorRegiment$Reader" "TailorRegiment$Reader" "size" "I") ∈ lw_all := lw_g (lw_at lw_m2 203 rfl) rfl
theorem q557 : (Jvm.Cond.soleField "TailorRegiment$Reader" "size") ∈ lw_all := lw_g (lw_at lw_m2 204 rfl) rfl
theorem q558 : (Jvm.Cond.laysFinal "TailorRegiment$Reader" "TailorRegiment$Reader" "fault" "LTailorRegiment$Wrong;") ∈ lw_all := lw_g (lw_at lw_m2 205 rfl) rfl
theorem q559 : (Jvm.Cond.soleField "TailorRegiment$Reader" "fault") ∈ lw_all := lw_g (lw_at lw_m2 206 rfl) rfl
theorem q560 : (Jvm.Cond.laysFinal "TailorRegiment$Reader" "TailorRegiment$Reader" "\x72" "LTailorRegiment$Regiment;") ∈ lw_all := lw_g (lw_at lw_m2 207 rfl) rfl
theorem q561 : (Jvm.Cond.soleField "TailorRegiment$Reader" "\x72") ∈ lw_all := lw_g (lw_at lw_m2 208 rfl) rfl
theorem q562 : (Jvm.Cond.lays "TailorRegiment$Reader" "TailorRegiment$Reader" "at" "I") ∈ lw_all := lw_g (lw_at lw_m2 209 rfl) rfl
theorem q563 : (Jvm.Cond.soleField "TailorRegiment$Reader" "at") ∈ lw_all := lw_g (lw_at lw_m2 210 rfl) rfl
theorem q564 : (Jvm.Cond.lays "TailorRegiment$Reader" "TailorRegiment$Reader" "end" "I") ∈ lw_all := lw_g (lw_at lw_m2 211 rfl) rfl
theorem q565 : (Jvm.Cond.soleField "TailorRegiment$Reader" "end") ∈ lw_all := lw_g (lw_at lw_m2 212 rfl) rfl
theorem q566 : (Jvm.Cond.lays "TailorRegiment$Reader" "TailorRegiment$Reader" "token" "I") ∈ lw_all := lw_g (lw_at lw_m2 213 rfl) rfl
theorem q567 : (Jvm.Cond.soleField "TailorRegiment$Reader" "token") ∈ lw_all := lw_g (lw_at lw_m2 214 rfl) rfl
theorem q568 : (Jvm.Cond.lays "TailorRegiment$Reader" "TailorRegiment$Reader" "number" "I") ∈ lw_all := lw_g (lw_at lw_m2 215 rfl) rfl
theorem q569 : (Jvm.Cond.soleField "TailorRegiment$Reader" "number") ∈ lw_all := lw_g (lw_at lw_m2 216 rfl) rfl
theorem q570 : (Jvm.Cond.lays "TailorRegiment$Reader" "TailorRegiment$Reader" "name" "J") ∈ lw_all := lw_g (lw_at lw_m2 217 rfl) rfl
theorem q571 : (Jvm.Cond.soleField "TailorRegiment$Reader" "name") ∈ lw_all := lw_g (lw_at lw_m2 218 rfl) rfl
theorem q572 : (Jvm.Cond.lays "TailorRegiment$Reader" "TailorRegiment$Reader" "deep" "I") ∈ lw_all := lw_g (lw_at lw_m2 219 rfl) rfl
theorem q573 : (Jvm.Cond.soleField "TailorRegiment$Reader" "deep") ∈ lw_all := lw_g (lw_at lw_m2 220 rfl) rfl
theorem q574 : (Jvm.Cond.lays "TailorRegiment$Reader" "TailorRegiment$Reader" "mine" "I") ∈ lw_all := lw_g (lw_at lw_m2 221 rfl) rfl
theorem q575 : (Jvm.Cond.soleField "TailorRegiment$Reader" "mine") ∈ lw_all := lw_g (lw_at lw_m2 222 rfl) rfl
theorem q576 : (Jvm.Cond.superclass "TailorRegiment$Reader" "java/lang/Object") ∈ lw_all := lw_g (lw_at lw_m2 223 rfl) rfl
theorem q578 : (Jvm.Cond.instanceMethod ({ cls := "TailorRegiment$Reader", name := "read", desc := "()LTailorRegiment$Regiment;" } : Jvm.MethodName)) ∈ lw_all := lw_g (lw_at lw_m2 225 rfl) rfl
theorem q579 : (Jvm.Cond.selects "TailorRegiment$Reader" ({ cls := "TailorRegiment$Reader", name := "read", desc := "()LTailorRegiment$Regiment;" } : Jvm.MethodName) ({ cls := "TailorRegiment$Reader", name := "read", desc := "()LTailorRegiment$Regiment;" } : Jvm.MethodName)) ∈ lw_all := lw_g (lw_at lw_m2 226 rfl) rfl
theorem q580 : (Jvm.Cond.code ({ cls := "TailorRegiment$Reader", name := "read", desc := "()LTailorRegiment$Regiment;" } : Jvm.MethodName) prog_12_method_32_code (1 : Nat) (Option.some (Jvm.ClassFile.FieldType.object "TailorRegiment$Regiment"))) ∈ lw_all := lw_g (lw_at lw_m2 227 rfl) rfl
theorem q581 : (Jvm.Cond.methodLink "TailorRegiment$Reader" (90 : Nat) ({ cls := "TailorRegiment$Reader", name := "next", desc := "()V" } : Jvm.MethodName)) ∈ lw_all := lw_g (lw_at lw_m2 228 rfl) rfl
theorem q582 : (Jvm.Cond.privateMethod ({ cls := "TailorRegiment$Reader", name := "next", desc := "()V" } : Jvm.MethodName)) ∈ lw_tbl := lw_at lw_m2 229 rfl
theorem q583 : (Jvm.Cond.instanceMethod ({ cls := "TailorRegiment$Reader", name := "next", desc := "()V" } : Jvm.MethodName)) ∈ lw_all := lw_g (lw_at lw_m2 230 rfl) rfl
theorem q584 : (Jvm.Cond.code ({ cls := "TailorRegiment$Reader", name := "next", desc := "()V" } : Jvm.MethodName) prog_12_method_6_code (2 : Nat) (Option.none : Option Jvm.ClassFile.FieldType)) ∈ lw_all := lw_g (lw_at lw_m2 231 rfl) rfl
theorem q585 : (Jvm.Cond.methodLink "TailorRegiment$Reader" (36 : Nat) ({ cls := "TailorRegiment$Reader", name := "sign", desc := "(I)I" } : Jvm.MethodName)) ∈ lw_all := lw_g (lw_at lw_m2 232 rfl) rfl
theorem q586 : (Jvm.Cond.privateMethod ({ cls := "TailorRegiment$Reader", name := "sign", desc := "(I)I" } : Jvm.MethodName)) ∈ lw_tbl := lw_at lw_m2 233 rfl
theorem q587 : (Jvm.Cond.instanceMethod ({ cls := "TailorRegiment$Reader", name := "sign", desc := "(I)I" } : Jvm.MethodName)) ∈ lw_all := lw_g (lw_at lw_m2 234 rfl) rfl
theorem q588 : (Jvm.Cond.code ({ cls := "TailorRegiment$Reader", name := "sign", desc := "(I)I" } : Jvm.MethodName) prog_12_method_2_code (2 : Nat) (Option.some Jvm.ClassFile.FieldType.int)) ∈ lw_all := lw_g (lw_at lw_m2 235 rfl) rfl
theorem q589 : (Jvm.Cond.methodLink "TailorRegiment$Reader" (43 : Nat) ({ cls := "TailorRegiment$Reader", name := "isLetter", desc := "(I)Z" } : Jvm.MethodName)) ∈ lw_all := lw_g (lw_at lw_m2 236 rfl) rfl
theorem q590 : (Jvm.Cond.static ({ cls := "TailorRegiment$Reader", name := "isLetter", desc := "(I)Z" } : Jvm.MethodName)) ∈ lw_all := lw_g (lw_at lw_m2 237 rfl) rfl
theorem q591 : (Jvm.Cond.code ({ cls := "TailorRegiment$Reader", name := "isLetter", desc := "(I)Z" } : Jvm.MethodName) prog_12_method_3_code (1 : Nat) (Option.some Jvm.ClassFile.FieldType.boolean)) ∈ lw_all := lw_g (lw_at lw_m2 238 rfl) rfl
theorem q592 : (Jvm.Cond.methodLink "TailorRegiment$Reader" (47 : Nat) ({ cls := "TailorRegiment$Reader", name := "readWord", desc := "()V" } : Jvm.MethodName)) ∈ lw_all := lw_g (lw_at lw_m2 239 rfl) rfl
theorem q593 : (Jvm.Cond.privateMethod ({ cls := "TailorRegiment$Reader", name := "readWord", desc := "()V" } : Jvm.MethodName)) ∈ lw_tbl := lw_at lw_m3 0 rfl
theorem q594 : (Jvm.Cond.instanceMethod ({ cls := "TailorRegiment$Reader", name := "readWord", desc := "()V" } : Jvm.MethodName)) ∈ lw_all := lw_g (lw_at lw_m3 1 rfl) rfl
theorem q595 : (Jvm.Cond.code ({ cls := "TailorRegiment$Reader", name := "readWord", desc := "()V" } : Jvm.MethodName) prog_12_method_7_code (1 : Nat) (Option.none : Option Jvm.ClassFile.FieldType)) ∈ lw_all := lw_g (lw_at lw_m3 2 rfl) rfl
theorem q596 : (Jvm.Cond.methodLink "TailorRegiment$Reader" (50 : Nat) ({ cls := "TailorRegiment$Reader", name := "isDigit", desc := "(I)Z" } : Jvm.MethodName)) ∈ lw_all := lw_g (lw_at lw_m3 3 rfl) rfl
theorem q597 : (Jvm.Cond.static ({ cls := "TailorRegiment$Reader", name := "isDigit", desc := "(I)Z" } : Jvm.MethodName)) ∈ lw_all := lw_g (lw_at lw_m3 4 rfl) rfl
theorem q598 : (Jvm.Cond.code ({ cls := "TailorRegiment$Reader", name := "isDigit", desc := "(I)Z" } : Jvm.MethodName) prog_12_method_4_code (1 : Nat) (Option.some Jvm.ClassFile.FieldType.boolean)) ∈ lw_all := lw_g (lw_at lw_m3 5 rfl) rfl
theorem q599 : (Jvm.Cond.methodLink "TailorRegiment$Reader" (53 : Nat) ({ cls := "TailorRegiment$Reader", name := "readNumber", desc := "()V" } : Jvm.MethodName)) ∈ lw_all := lw_g (lw_at lw_m3 6 rfl) rfl
theorem q600 : (Jvm.Cond.privateMethod ({ cls := "TailorRegiment$Reader", name := "readNumber", desc := "()V" } : Jvm.MethodName)) ∈ lw_tbl := lw_at lw_m3 7 rfl
theorem q601 : (Jvm.Cond.instanceMethod ({ cls := "TailorRegiment$Reader", name := "readNumber", desc := "()V" } : Jvm.MethodName)) ∈ lw_all := lw_g (lw_at lw_m3 8 rfl) rfl
theorem q602 : (Jvm.Cond.code ({ cls := "TailorRegiment$Reader", name := "readNumber", desc := "()V" } : Jvm.MethodName) prog_12_method_8_code (1 : Nat) (Option.none : Option Jvm.ClassFile.FieldType)) ∈ lw_all := lw_g (lw_at lw_m3 9 rfl) rfl
theorem q603 : (Jvm.Cond.methodLink "TailorRegiment$Reader" (56 : Nat) ({ cls := "TailorRegiment$Reader", name := "isSign", desc := "(I)Z" } : Jvm.MethodName)) ∈ lw_all := lw_g (lw_at lw_m3 10 rfl) rfl
theorem q604 : (Jvm.Cond.static ({ cls := "TailorRegiment$Reader", name := "isSign", desc := "(I)Z" } : Jvm.MethodName)) ∈ lw_all := lw_g (lw_at lw_m3 11 rfl) rfl
theorem q605 : (Jvm.Cond.code ({ cls := "TailorRegiment$Reader", name := "isSign", desc := "(I)Z" } : Jvm.MethodName) prog_12_method_5_code (1 : Nat) (Option.some Jvm.ClassFile.FieldType.boolean)) ∈ lw_all := lw_g (lw_at lw_m3 12 rfl) rfl
theorem q606 : (Jvm.Cond.methodLink "TailorRegiment$Reader" (301 : Nat) ({ cls := "TailorRegiment$Reader", name := "line", desc := "()V" } : Jvm.MethodName)) ∈ lw_all := lw_g (lw_at lw_m3 13 rfl) rfl
theorem q607 : (Jvm.Cond.privateMethod ({ cls := "TailorRegiment$Reader", name := "line", desc := "()V" } : Jvm.MethodName)) ∈ lw_tbl := lw_at lw_m3 14 rfl
theorem q608 : (Jvm.Cond.instanceMethod ({ cls := "TailorRegiment$Reader", name := "line", desc := "()V" } : Jvm.MethodName)) ∈ lw_all := lw_g (lw_at lw_m3 15 rfl) rfl
theorem q609 : (Jvm.Cond.code ({ cls := "TailorRegiment$Reader", name := "line", desc := "()V" } : Jvm.MethodName) prog_12_method_31_code (1 : Nat) (Option.none : Option Jvm.ClassFile.FieldType)) ∈ lw_all := lw_g (lw_at lw_m3 16 rfl) rfl
theorem q610 : (Jvm.Cond.methodLink "TailorRegiment$Reader" (281 : Nat) ({ cls := "TailorRegiment$Reader", name := "canLine", desc := "()Z" } : Jvm.MethodName)) ∈ lw_all := lw_g (lw_at lw_m3 17 rfl) rfl
theorem q611 : (Jvm.Cond.privateMethod ({ cls := "TailorRegiment$Reader", name := "canLine", desc := "()Z" } : Jvm.MethodName)) ∈ lw_tbl := lw_at lw_m3 18 rfl
theorem q612 : (Jvm.Cond.instanceMethod ({ cls := "TailorRegiment$Reader", name := "canLine", desc := "()Z" } : Jvm.MethodName)) ∈ lw_all := lw_g (lw_at lw_m3 19 rfl) rfl
theorem q613 : (Jvm.Cond.code ({ cls := "TailorRegiment$Reader", name := "canLine", desc := "()Z" } : Jvm.MethodName) prog_12_method_30_code (1 : Nat) (Option.some Jvm.ClassFile.FieldType.boolean)) ∈ lw_all := lw_g (lw_at lw_m3 20 rfl) rfl
theorem q614 : (Jvm.Cond.stringRef "TailorRegiment$Reader" (244 : Nat) "man") ∈ lw_tbl := lw_at lw_m3 21 rfl
theorem q615 : (Jvm.Cond.methodLink "TailorRegiment$Reader" (76 : Nat) ({ cls := "TailorRegiment$Reader", name := "isWord", desc := "(Ljava/lang/String;)Z" } : Jvm.MethodName)) ∈ lw_all := lw_g (lw_at lw_m3 22 rfl) rfl
theorem q616 : (Jvm.Cond.privateMethod ({ cls := "TailorRegiment$Reader", name := "isWord", desc := "(Ljava/lang/String;)Z" } : Jvm.MethodName)) ∈ lw_tbl := lw_at lw_m3 23 rfl
theorem q617 : (Jvm.Cond.instanceMethod ({ cls := "TailorRegiment$Reader", name := "isWord", desc := "(Ljava/lang/String;)Z" } : Jvm.MethodName)) ∈ lw_all := lw_g (lw_at lw_m3 24 rfl) rfl
theorem q618 : (Jvm.Cond.code ({ cls := "TailorRegiment$Reader", name := "isWord", desc := "(Ljava/lang/String;)Z" } : Jvm.MethodName) prog_12_method_9_code (3 : Nat) (Option.some Jvm.ClassFile.FieldType.boolean)) ∈ lw_all := lw_g (lw_at lw_m3 25 rfl) rfl
theorem q619 : (Jvm.Cond.methodLink "TailorRegiment$Reader" (66 : Nat) ({ cls := "java/lang/String", name := "length", desc := "()I" } : Jvm.MethodName)) ∈ lw_all := lw_g (lw_at lw_m3 26 rfl) rfl
theorem q629 : (Jvm.Cond.methodLink "TailorRegiment$Reader" (72 : Nat) ({ cls := "java/lang/String", name := "charAt", desc := "(I)C" } : Jvm.MethodName)) ∈ lw_all := lw_g (lw_at lw_m3 36 rfl) rfl
theorem q665 : (Jvm.Cond.methodLink "TailorRegiment$Reader" (246 : Nat) ({ cls := "java/util/ArrayList", name := "size", desc := "()I" } : Jvm.MethodName)) ∈ lw_all := lw_g (lw_at lw_m3 72 rfl) rfl
theorem q666 : (Jvm.Cond.stringRef "TailorRegiment$Reader" (248 : Nat) "coat") ∈ lw_tbl := lw_at lw_m3 73 rfl
theorem q667 : (Jvm.Cond.stringRef "TailorRegiment$Reader" (250 : Nat) "ill") ∈ lw_tbl := lw_at lw_m3 74 rfl
theorem q668 : (Jvm.Cond.stringRef "TailorRegiment$Reader" (255 : Nat) "easy") ∈ lw_tbl := lw_at lw_m3 75 rfl
theorem q669 : (Jvm.Cond.stringRef "TailorRegiment$Reader" (261 : Nat) "bolt") ∈ lw_tbl := lw_at lw_m3 76 rfl
theorem q670 : (Jvm.Cond.stringRef "TailorRegiment$Reader" (266 : Nat) "like") ∈ lw_tbl := lw_at lw_m3 77 rfl
theorem q671 : (Jvm.Cond.stringRef "TailorRegiment$Reader" (271 : Nat) "rain") ∈ lw_tbl := lw_at lw_m3 78 rfl
theorem q672 : (Jvm.Cond.stringRef "TailorRegiment$Reader" (276 : Nat) "draw") ∈ lw_tbl := lw_at lw_m3 79 rfl
theorem q673 : (Jvm.Cond.methodLink "TailorRegiment$Reader" (86 : Nat) ({ cls := "TailorRegiment$Reader", name := "wrong", desc := "()LTailorRegiment$Wrong;" } : Jvm.MethodName)) ∈ lw_all := lw_g (lw_at lw_m3 80 rfl) rfl
theorem q674 : (Jvm.Cond.privateMethod ({ cls := "TailorRegiment$Reader", name := "wrong", desc := "()LTailorRegiment$Wrong;" } : Jvm.MethodName)) ∈ lw_tbl := lw_at lw_m3 81 rfl
theorem q675 : (Jvm.Cond.instanceMethod ({ cls := "TailorRegiment$Reader", name := "wrong", desc := "()LTailorRegiment$Wrong;" } : Jvm.MethodName)) ∈ lw_all := lw_g (lw_at lw_m3 82 rfl) rfl
theorem q676 : (Jvm.Cond.code ({ cls := "TailorRegiment$Reader", name := "wrong", desc := "()LTailorRegiment$Wrong;" } : Jvm.MethodName) prog_12_method_12_code (1 : Nat) (Option.some (Jvm.ClassFile.FieldType.object "TailorRegiment$Wrong"))) ∈ lw_all := lw_g (lw_at lw_m3 83 rfl) rfl
theorem q677 : (Jvm.Cond.methodLink "TailorRegiment$Reader" (80 : Nat) ({ cls := "TailorRegiment$Wrong", name := "by", desc := "(II)LTailorRegiment$Wrong;" } : Jvm.MethodName)) ∈ lw_all := lw_g (lw_at lw_m3 84 rfl) rfl
theorem q681 : (Jvm.Cond.methodLink "TailorRegiment$Reader" (195 : Nat) ({ cls := "TailorRegiment$Reader", name := "comes", desc := "(Ljava/lang/String;)Z" } : Jvm.MethodName)) ∈ lw_all := lw_g (lw_at lw_m3 88 rfl) rfl
theorem q682 : (Jvm.Cond.privateMethod ({ cls := "TailorRegiment$Reader", name := "comes", desc := "(Ljava/lang/String;)Z" } : Jvm.MethodName)) ∈ lw_tbl := lw_at lw_m3 89 rfl
theorem q683 : (Jvm.Cond.instanceMethod ({ cls := "TailorRegiment$Reader", name := "comes", desc := "(Ljava/lang/String;)Z" } : Jvm.MethodName)) ∈ lw_all := lw_g (lw_at lw_m3 90 rfl) rfl
theorem q684 : (Jvm.Cond.code ({ cls := "TailorRegiment$Reader", name := "comes", desc := "(Ljava/lang/String;)Z" } : Jvm.MethodName) prog_12_method_17_code (3 : Nat) (Option.some Jvm.ClassFile.FieldType.boolean)) ∈ lw_all := lw_g (lw_at lw_m3 91 rfl) rfl
theorem q685 : (Jvm.Cond.methodLink "TailorRegiment$Reader" (284 : Nat) ({ cls := "TailorRegiment$Reader", name := "man", desc := "()V" } : Jvm.MethodName)) ∈ lw_all := lw_g (lw_at lw_m3 92 rfl) rfl
theorem q686 : (Jvm.Cond.privateMethod ({ cls := "TailorRegiment$Reader", name := "man", desc := "()V" } : Jvm.MethodName)) ∈ lw_tbl := lw_at lw_m3 93 rfl
theorem q687 : (Jvm.Cond.instanceMethod ({ cls := "TailorRegiment$Reader", name := "man", desc := "()V" } : Jvm.MethodName)) ∈ lw_all := lw_g (lw_at lw_m3 94 rfl) rfl
theorem q688 : (Jvm.Cond.code ({ cls := "TailorRegiment$Reader", name := "man", desc := "()V" } : Jvm.MethodName) prog_12_method_20_code (2 : Nat) (Option.none : Option Jvm.ClassFile.FieldType)) ∈ lw_all := lw_g (lw_at lw_m3 95 rfl) rfl
theorem q689 : (Jvm.Cond.classLink "TailorRegiment$Reader" (138 : Nat) "TailorRegiment$Man") ∈ lw_all := lw_g (lw_at lw_m3 96 rfl) rfl
theorem q691 : (Jvm.Cond.methodLink "TailorRegiment$Reader" (144 : Nat) ({ cls := "TailorRegiment$Reader", name := "fresh", desc := "(Ljava/util/ArrayList;)J" } : Jvm.MethodName)) ∈ lw_all := lw_g (lw_at lw_m3 98 rfl) rfl
theorem q692 : (Jvm.Cond.privateMethod ({ cls := "TailorRegiment$Reader", name := "fresh", desc := "(Ljava/util/ArrayList;)J" } : Jvm.MethodName)) ∈ lw_tbl := lw_at lw_m3 99 rfl
theorem q693 : (Jvm.Cond.instanceMethod ({ cls := "TailorRegiment$Reader", name := "fresh", desc := "(Ljava/util/ArrayList;)J" } : Jvm.MethodName)) ∈ lw_all := lw_g (lw_at lw_m3 100 rfl) rfl
theorem q694 : (Jvm.Cond.code ({ cls := "TailorRegiment$Reader", name := "fresh", desc := "(Ljava/util/ArrayList;)J" } : Jvm.MethodName) prog_12_method_18_code (4 : Nat) (Option.some Jvm.ClassFile.FieldType.long)) ∈ lw_all := lw_g (lw_at lw_m3 101 rfl) rfl
theorem q695 : (Jvm.Cond.fieldLink "TailorRegiment$Reader" (104 : Nat) "TailorRegiment$Reader" "KEPT" "[Ljava/lang/String;") ∈ lw_all := lw_g (lw_at lw_m3 102 rfl) rfl
theorem q696 : (Jvm.Cond.laysStatic "TailorRegiment$Reader" "KEPT" "[Ljava/lang/String;") ∈ lw_tbl := lw_at lw_m3 103 rfl
theorem q697 : (Jvm.Cond.methodLink "TailorRegiment$Reader" (108 : Nat) ({ cls := "TailorRegiment$Reader", name := "which", desc := "([Ljava/lang/String;)I" } : Jvm.MethodName)) ∈ lw_all := lw_g (lw_at lw_m3 104 rfl) rfl
theorem q698 : (Jvm.Cond.privateMethod ({ cls := "TailorRegiment$Reader", name := "which", desc := "([Ljava/lang/String;)I" } : Jvm.MethodName)) ∈ lw_tbl := lw_at lw_m3 105 rfl
theorem q699 : (Jvm.Cond.instanceMethod ({ cls := "TailorRegiment$Reader", name := "which", desc := "([Ljava/lang/String;)I" } : Jvm.MethodName)) ∈ lw_all := lw_g (lw_at lw_m3 106 rfl) rfl
theorem q700 : (Jvm.Cond.code ({ cls := "TailorRegiment$Reader", name := "which", desc := "([Ljava/lang/String;)I" } : Jvm.MethodName) prog_12_method_10_code (3 : Nat) (Option.some Jvm.ClassFile.FieldType.int)) ∈ lw_all := lw_g (lw_at lw_m3 107 rfl) rfl
theorem q701 : (Jvm.Cond.methodLink "TailorRegiment$Reader" (112 : Nat) ({ cls := "java/util/ArrayList", name := "iterator", desc := "()Ljava/util/Iterator;" } : Jvm.MethodName)) ∈ lw_all := lw_g (lw_at lw_m3 108 rfl) rfl
theorem q724 : (Jvm.Cond.interfaceEntry "TailorRegiment$Reader" (118 : Nat)) ∈ lw_tbl := lw_at lw_m3 131 rfl
theorem q725 : (Jvm.Cond.methodLink "TailorRegiment$Reader" (118 : Nat) ({ cls := "java/util/Iterator", name := "hasNext", desc := "()Z" } : Jvm.MethodName)) ∈ lw_all := lw_g (lw_at lw_m3 132 rfl) rfl
theorem q734 : (Jvm.Cond.interfaceEntry "TailorRegiment$Reader" (124 : Nat)) ∈ lw_tbl := lw_at lw_m3 141 rfl
theorem q735 : (Jvm.Cond.methodLink "TailorRegiment$Reader" (124 : Nat) ({ cls := "java/util/Iterator", name := "next", desc := "()Ljava/lang/Object;" } : Jvm.MethodName)) ∈ lw_all := lw_g (lw_at lw_m3 142 rfl) rfl
theorem q747 : (Jvm.Cond.classLink "TailorRegiment$Reader" (127 : Nat) "TailorRegiment$Called") ∈ lw_all := lw_g (lw_at lw_m3 154 rfl) rfl
theorem q748 : (Jvm.Cond.methodLink "TailorRegiment$Reader" (148 : Nat) ({ cls := "TailorRegiment$Man", name := "<init>", desc := "(J)V" } : Jvm.MethodName)) ∈ lw_all := lw_g (lw_at lw_m3 155 rfl) rfl
theorem q757 : (Jvm.Cond.fieldLinkNest "TailorRegiment$Reader" (160 : Nat) "TailorRegiment$Man" "grows" "I" "TailorRegiment") ∈ lw_tbl := lw_at lw_m3 164 rfl
theorem q759 : (Jvm.Cond.fieldLink "TailorRegiment$Reader" (129 : Nat) "TailorRegiment$Called" "name" "J") ∈ lw_all := lw_g (lw_at lw_m3 166 rfl) rfl
theorem q764 : (Jvm.Cond.fieldLink "TailorRegiment$Reader" (132 : Nat) "TailorRegiment$Called" "tall" "I") ∈ lw_all := lw_g (lw_at lw_m3 171 rfl) rfl
theorem q770 : (Jvm.Cond.fieldLink "TailorRegiment$Reader" (136 : Nat) "TailorRegiment$Called" "wide" "I") ∈ lw_all := lw_g (lw_at lw_m3 177 rfl) rfl
theorem q780 : (Jvm.Cond.methodLink "TailorRegiment$Reader" (151 : Nat) ({ cls := "TailorRegiment$Reader", name := "measures", desc := "(LTailorRegiment$Called;)V" } : Jvm.MethodName)) ∈ lw_all := lw_g (lw_at lw_m3 187 rfl) rfl
theorem q781 : (Jvm.Cond.privateMethod ({ cls := "TailorRegiment$Reader", name := "measures", desc := "(LTailorRegiment$Called;)V" } : Jvm.MethodName)) ∈ lw_tbl := lw_at lw_m3 188 rfl
theorem q782 : (Jvm.Cond.instanceMethod ({ cls := "TailorRegiment$Reader", name := "measures", desc := "(LTailorRegiment$Called;)V" } : Jvm.MethodName)) ∈ lw_all := lw_g (lw_at lw_m3 189 rfl) rfl
theorem q783 : (Jvm.Cond.code ({ cls := "TailorRegiment$Reader", name := "measures", desc := "(LTailorRegiment$Called;)V" } : Jvm.MethodName) prog_12_method_19_code (2 : Nat) (Option.none : Option Jvm.ClassFile.FieldType)) ∈ lw_all := lw_g (lw_at lw_m3 190 rfl) rfl
theorem q784 : (Jvm.Cond.stringRef "TailorRegiment$Reader" (130 : Nat) "tall") ∈ lw_tbl := lw_at lw_m3 191 rfl
theorem q785 : (Jvm.Cond.methodLink "TailorRegiment$Reader" (100 : Nat) ({ cls := "TailorRegiment$Reader", name := "after", desc := "(Ljava/lang/String;I)I" } : Jvm.MethodName)) ∈ lw_all := lw_g (lw_at lw_m3 192 rfl) rfl
theorem q786 : (Jvm.Cond.privateMethod ({ cls := "TailorRegiment$Reader", name := "after", desc := "(Ljava/lang/String;I)I" } : Jvm.MethodName)) ∈ lw_tbl := lw_at lw_m3 193 rfl
theorem q787 : (Jvm.Cond.instanceMethod ({ cls := "TailorRegiment$Reader", name := "after", desc := "(Ljava/lang/String;I)I" } : Jvm.MethodName)) ∈ lw_all := lw_g (lw_at lw_m3 194 rfl) rfl
theorem q788 : (Jvm.Cond.code ({ cls := "TailorRegiment$Reader", name := "after", desc := "(Ljava/lang/String;I)I" } : Jvm.MethodName) prog_12_method_15_code (3 : Nat) (Option.some Jvm.ClassFile.FieldType.int)) ∈ lw_all := lw_g (lw_at lw_m3 195 rfl) rfl
theorem q789 : (Jvm.Cond.methodLink "TailorRegiment$Reader" (93 : Nat) ({ cls := "TailorRegiment$Reader", name := "must", desc := "(Z)V" } : Jvm.MethodName)) ∈ lw_all := lw_g (lw_at lw_m3 196 rfl) rfl
theorem q790 : (Jvm.Cond.privateMethod ({ cls := "TailorRegiment$Reader", name := "must", desc := "(Z)V" } : Jvm.MethodName)) ∈ lw_tbl := lw_at lw_m3 197 rfl
theorem q791 : (Jvm.Cond.instanceMethod ({ cls := "TailorRegiment$Reader", name := "must", desc := "(Z)V" } : Jvm.MethodName)) ∈ lw_all := lw_g (lw_at lw_m3 198 rfl) rfl
theorem q792 : (Jvm.Cond.code ({ cls := "TailorRegiment$Reader", name := "must", desc := "(Z)V" } : Jvm.MethodName) prog_12_method_13_code (2 : Nat) (Option.none : Option Jvm.ClassFile.FieldType)) ∈ lw_all := lw_g (lw_at lw_m3 199 rfl) rfl
theorem q793 : (Jvm.Cond.methodLink "TailorRegiment$Reader" (97 : Nat) ({ cls := "TailorRegiment$Reader", name := "number", desc := "(II)I" } : Jvm.MethodName)) ∈ lw_all := lw_g (lw_at lw_m3 200 rfl) rfl
theorem q794 : (Jvm.Cond.privateMethod ({ cls := "TailorRegiment$Reader", name := "number", desc := "(II)I" } : Jvm.MethodName)) ∈ lw_tbl := lw_at lw_m3 201 rfl
theorem q795 : (Jvm.Cond.instanceMethod ({ cls := "TailorRegiment$Reader", name := "number", desc := "(II)I" } : Jvm.MethodName)) ∈ lw_all := lw_g (lw_at lw_m3 202 rfl) rfl
theorem q796 : (Jvm.Cond.code ({ cls := "TailorRegiment$Reader", name := "number", desc := "(II)I" } : Jvm.MethodName) prog_12_method_14_code (4 : Nat) (Option.some Jvm.ClassFile.FieldType.int)) ∈ lw_all := lw_g (lw_at lw_m3 203 rfl) rfl
theorem q797 : (Jvm.Cond.stringRef "TailorRegiment$Reader" (134 : Nat) "wide") ∈ lw_tbl := lw_at lw_m3 204 rfl
theorem q798 : (Jvm.Cond.stringRef "TailorRegiment$Reader" (155 : Nat) "grows") ∈ lw_tbl := lw_at lw_m3 205 rfl
theorem q799 : (Jvm.Cond.methodLink "TailorRegiment$Reader" (157 : Nat) ({ cls := "TailorRegiment$Reader", name := "perhaps", desc := "(Ljava/lang/String;I)I" } : Jvm.MethodName)) ∈ lw_all := lw_g (lw_at lw_m3 206 rfl) rfl
theorem q800 : (Jvm.Cond.privateMethod ({ cls := "TailorRegiment$Reader", name := "perhaps", desc := "(Ljava/lang/String;I)I" } : Jvm.MethodName)) ∈ lw_tbl := lw_at lw_m3 207 rfl
theorem q801 : (Jvm.Cond.instanceMethod ({ cls := "TailorRegiment$Reader", name := "perhaps", desc := "(Ljava/lang/String;I)I" } : Jvm.MethodName)) ∈ lw_all := lw_g (lw_at lw_m3 208 rfl) rfl
theorem q802 : (Jvm.Cond.code ({ cls := "TailorRegiment$Reader", name := "perhaps", desc := "(Ljava/lang/String;I)I" } : Jvm.MethodName) prog_12_method_16_code (3 : Nat) (Option.some Jvm.ClassFile.FieldType.int)) ∈ lw_all := lw_g (lw_at lw_m3 209 rfl) rfl
theorem q803 : (Jvm.Cond.methodLink "TailorRegiment$Reader" (162 : Nat) ({ cls := "java/util/ArrayList", name := "add", desc := "(Ljava/lang/Object;)Z" } : Jvm.MethodName)) ∈ lw_all := lw_g (lw_at lw_m3 210 rfl) rfl
theorem q843 : (Jvm.Cond.selects "TailorRegiment$Reader" ({ cls := "java/lang/Object", name := "getClass", desc := "()Ljava/lang/Class;" } : Jvm.MethodName) ({ cls := "java/lang/Object", name := "getClass", desc := "()Ljava/lang/Class;" } : Jvm.MethodName)) ∈ lw_all := lw_g (lw_at lw_m4 10 rfl) rfl
theorem q868 : (Jvm.Cond.methodLink "TailorRegiment$Reader" (286 : Nat) ({ cls := "TailorRegiment$Reader", name := "coat", desc := "()V" } : Jvm.MethodName)) ∈ lw_all := lw_g (lw_at lw_m4 35 rfl) rfl
theorem q869 : (Jvm.Cond.privateMethod ({ cls := "TailorRegiment$Reader", name := "coat", desc := "()V" } : Jvm.MethodName)) ∈ lw_tbl := lw_at lw_m4 36 rfl
theorem q870 : (Jvm.Cond.instanceMethod ({ cls := "TailorRegiment$Reader", name := "coat", desc := "()V" } : Jvm.MethodName)) ∈ lw_all := lw_g (lw_at lw_m4 37 rfl) rfl
theorem q871 : (Jvm.Cond.code ({ cls := "TailorRegiment$Reader", name := "coat", desc := "()V" } : Jvm.MethodName) prog_12_method_21_code (2 : Nat) (Option.none : Option Jvm.ClassFile.FieldType)) ∈ lw_all := lw_g (lw_at lw_m4 38 rfl) rfl
theorem q872 : (Jvm.Cond.classLink "TailorRegiment$Reader" (166 : Nat) "TailorRegiment$Coat") ∈ lw_all := lw_g (lw_at lw_m4 39 rfl) rfl
theorem q874 : (Jvm.Cond.methodLink "TailorRegiment$Reader" (171 : Nat) ({ cls := "TailorRegiment$Coat", name := "<init>", desc := "(J)V" } : Jvm.MethodName)) ∈ lw_all := lw_g (lw_at lw_m4 41 rfl) rfl
theorem q879 : (Jvm.Cond.fieldLinkNest "TailorRegiment$Reader" (174 : Nat) "TailorRegiment$Coat" "seam" "I" "TailorRegiment") ∈ lw_tbl := lw_at lw_m4 46 rfl
theorem q881 : (Jvm.Cond.fieldLinkNest "TailorRegiment$Reader" (178 : Nat) "TailorRegiment$Coat" "worn" "I" "TailorRegiment") ∈ lw_tbl := lw_at lw_m4 48 rfl
theorem q890 : (Jvm.Cond.stringRef "TailorRegiment$Reader" (172 : Nat) "seam") ∈ lw_tbl := lw_at lw_m4 57 rfl
theorem q891 : (Jvm.Cond.stringRef "TailorRegiment$Reader" (176 : Nat) "worn") ∈ lw_tbl := lw_at lw_m4 58 rfl
theorem q892 : (Jvm.Cond.methodLink "TailorRegiment$Reader" (288 : Nat) ({ cls := "TailorRegiment$Reader", name := "formula", desc := "()LTailorRegiment$Part;" } : Jvm.MethodName)) ∈ lw_all := lw_g (lw_at lw_m4 59 rfl) rfl
theorem q893 : (Jvm.Cond.privateMethod ({ cls := "TailorRegiment$Reader", name := "formula", desc := "()LTailorRegiment$Part;" } : Jvm.MethodName)) ∈ lw_tbl := lw_at lw_m4 60 rfl
theorem q894 : (Jvm.Cond.instanceMethod ({ cls := "TailorRegiment$Reader", name := "formula", desc := "()LTailorRegiment$Part;" } : Jvm.MethodName)) ∈ lw_all := lw_g (lw_at lw_m4 61 rfl) rfl
theorem q895 : (Jvm.Cond.code ({ cls := "TailorRegiment$Reader", name := "formula", desc := "()LTailorRegiment$Part;" } : Jvm.MethodName) prog_12_method_22_code (1 : Nat) (Option.some (Jvm.ClassFile.FieldType.object "TailorRegiment$Part"))) ∈ lw_all := lw_g (lw_at lw_m4 62 rfl) rfl
theorem q896 : (Jvm.Cond.methodLink "TailorRegiment$Reader" (186 : Nat) ({ cls := "TailorRegiment$Reader", name := "either", desc := "()LTailorRegiment$Part;" } : Jvm.MethodName)) ∈ lw_all := lw_g (lw_at lw_m4 63 rfl) rfl
theorem q897 : (Jvm.Cond.privateMethod ({ cls := "TailorRegiment$Reader", name := "either", desc := "()LTailorRegiment$Part;" } : Jvm.MethodName)) ∈ lw_tbl := lw_at lw_m4 64 rfl
theorem q898 : (Jvm.Cond.instanceMethod ({ cls := "TailorRegiment$Reader", name := "either", desc := "()LTailorRegiment$Part;" } : Jvm.MethodName)) ∈ lw_all := lw_g (lw_at lw_m4 65 rfl) rfl
theorem q899 : (Jvm.Cond.code ({ cls := "TailorRegiment$Reader", name := "either", desc := "()LTailorRegiment$Part;" } : Jvm.MethodName) prog_12_method_23_code (2 : Nat) (Option.some (Jvm.ClassFile.FieldType.object "TailorRegiment$Part"))) ∈ lw_all := lw_g (lw_at lw_m4 66 rfl) rfl
theorem q900 : (Jvm.Cond.methodLink "TailorRegiment$Reader" (190 : Nat) ({ cls := "TailorRegiment$Reader", name := "both", desc := "()LTailorRegiment$Part;" } : Jvm.MethodName)) ∈ lw_all := lw_g (lw_at lw_m4 67 rfl) rfl
theorem q901 : (Jvm.Cond.privateMethod ({ cls := "TailorRegiment$Reader", name := "both", desc := "()LTailorRegiment$Part;" } : Jvm.MethodName)) ∈ lw_tbl := lw_at lw_m4 68 rfl
theorem q902 : (Jvm.Cond.instanceMethod ({ cls := "TailorRegiment$Reader", name := "both", desc := "()LTailorRegiment$Part;" } : Jvm.MethodName)) ∈ lw_all := lw_g (lw_at lw_m4 69 rfl) rfl
theorem q903 : (Jvm.Cond.code ({ cls := "TailorRegiment$Reader", name := "both", desc := "()LTailorRegiment$Part;" } : Jvm.MethodName) prog_12_method_24_code (2 : Nat) (Option.some (Jvm.ClassFile.FieldType.object "TailorRegiment$Part"))) ∈ lw_all := lw_g (lw_at lw_m4 70 rfl) rfl
theorem q904 : (Jvm.Cond.methodLink "TailorRegiment$Reader" (203 : Nat) ({ cls := "TailorRegiment$Reader", name := "one", desc := "()LTailorRegiment$Part;" } : Jvm.MethodName)) ∈ lw_all := lw_g (lw_at lw_m4 71 rfl) rfl
theorem q905 : (Jvm.Cond.privateMethod ({ cls := "TailorRegiment$Reader", name := "one", desc := "()LTailorRegiment$Part;" } : Jvm.MethodName)) ∈ lw_tbl := lw_at lw_m4 72 rfl
theorem q906 : (Jvm.Cond.instanceMethod ({ cls := "TailorRegiment$Reader", name := "one", desc := "()LTailorRegiment$Part;" } : Jvm.MethodName)) ∈ lw_all := lw_g (lw_at lw_m4 73 rfl) rfl
theorem q907 : (Jvm.Cond.code ({ cls := "TailorRegiment$Reader", name := "one", desc := "()LTailorRegiment$Part;" } : Jvm.MethodName) prog_12_method_26_code (3 : Nat) (Option.some (Jvm.ClassFile.FieldType.object "TailorRegiment$Part"))) ∈ lw_all := lw_g (lw_at lw_m4 74 rfl) rfl
theorem q908 : (Jvm.Cond.stringRef "TailorRegiment$Reader" (208 : Nat) "not") ∈ lw_tbl := lw_at lw_m4 75 rfl
theorem q909 : (Jvm.Cond.methodLink "TailorRegiment$Reader" (210 : Nat) ({ cls := "TailorRegiment$Reader", name := "open", desc := "()V" } : Jvm.MethodName)) ∈ lw_all := lw_g (lw_at lw_m4 76 rfl) rfl
theorem q910 : (Jvm.Cond.privateMethod ({ cls := "TailorRegiment$Reader", name := "open", desc := "()V" } : Jvm.MethodName)) ∈ lw_tbl := lw_at lw_m4 77 rfl
theorem q911 : (Jvm.Cond.instanceMethod ({ cls := "TailorRegiment$Reader", name := "open", desc := "()V" } : Jvm.MethodName)) ∈ lw_all := lw_g (lw_at lw_m4 78 rfl) rfl
theorem q912 : (Jvm.Cond.code ({ cls := "TailorRegiment$Reader", name := "open", desc := "()V" } : Jvm.MethodName) prog_12_method_25_code (1 : Nat) (Option.none : Option Jvm.ClassFile.FieldType)) ∈ lw_all := lw_g (lw_at lw_m4 79 rfl) rfl
theorem q913 : (Jvm.Cond.classLink "TailorRegiment$Reader" (213 : Nat) "TailorRegiment$Not") ∈ lw_all := lw_g (lw_at lw_m4 80 rfl) rfl
theorem q915 : (Jvm.Cond.methodLink "TailorRegiment$Reader" (215 : Nat) ({ cls := "TailorRegiment$Not", name := "<init>", desc := "(LTailorRegiment$Part;)V" } : Jvm.MethodName)) ∈ lw_all := lw_g (lw_at lw_m4 82 rfl) rfl
theorem q926 : (Jvm.Cond.methodLink "TailorRegiment$Reader" (218 : Nat) ({ cls := "TailorRegiment$Reader", name := "sum", desc := "()LTailorRegiment$Part;" } : Jvm.MethodName)) ∈ lw_all := lw_g (lw_at lw_m4 93 rfl) rfl
theorem q927 : (Jvm.Cond.privateMethod ({ cls := "TailorRegiment$Reader", name := "sum", desc := "()LTailorRegiment$Part;" } : Jvm.MethodName)) ∈ lw_tbl := lw_at lw_m4 94 rfl
theorem q928 : (Jvm.Cond.instanceMethod ({ cls := "TailorRegiment$Reader", name := "sum", desc := "()LTailorRegiment$Part;" } : Jvm.MethodName)) ∈ lw_all := lw_g (lw_at lw_m4 95 rfl) rfl
theorem q929 : (Jvm.Cond.code ({ cls := "TailorRegiment$Reader", name := "sum", desc := "()LTailorRegiment$Part;" } : Jvm.MethodName) prog_12_method_27_code (3 : Nat) (Option.some (Jvm.ClassFile.FieldType.object "TailorRegiment$Part"))) ∈ lw_all := lw_g (lw_at lw_m4 96 rfl) rfl
theorem q930 : (Jvm.Cond.methodLink "TailorRegiment$Reader" (224 : Nat) ({ cls := "TailorRegiment$Reader", name := "term", desc := "()LTailorRegiment$Part;" } : Jvm.MethodName)) ∈ lw_all := lw_g (lw_at lw_m4 97 rfl) rfl
theorem q931 : (Jvm.Cond.privateMethod ({ cls := "TailorRegiment$Reader", name := "term", desc := "()LTailorRegiment$Part;" } : Jvm.MethodName)) ∈ lw_tbl := lw_at lw_m4 98 rfl
theorem q932 : (Jvm.Cond.instanceMethod ({ cls := "TailorRegiment$Reader", name := "term", desc := "()LTailorRegiment$Part;" } : Jvm.MethodName)) ∈ lw_all := lw_g (lw_at lw_m4 99 rfl) rfl
theorem q933 : (Jvm.Cond.code ({ cls := "TailorRegiment$Reader", name := "term", desc := "()LTailorRegiment$Part;" } : Jvm.MethodName) prog_12_method_28_code (3 : Nat) (Option.some (Jvm.ClassFile.FieldType.object "TailorRegiment$Part"))) ∈ lw_all := lw_g (lw_at lw_m4 100 rfl) rfl
theorem q934 : (Jvm.Cond.methodLink "TailorRegiment$Reader" (227 : Nat) ({ cls := "TailorRegiment$Reader", name := "unit", desc := "()LTailorRegiment$Part;" } : Jvm.MethodName)) ∈ lw_all := lw_g (lw_at lw_m4 101 rfl) rfl
theorem q935 : (Jvm.Cond.privateMethod ({ cls := "TailorRegiment$Reader", name := "unit", desc := "()LTailorRegiment$Part;" } : Jvm.MethodName)) ∈ lw_tbl := lw_at lw_m4 102 rfl
theorem q936 : (Jvm.Cond.instanceMethod ({ cls := "TailorRegiment$Reader", name := "unit", desc := "()LTailorRegiment$Part;" } : Jvm.MethodName)) ∈ lw_all := lw_g (lw_at lw_m4 103 rfl) rfl
theorem q937 : (Jvm.Cond.code ({ cls := "TailorRegiment$Reader", name := "unit", desc := "()LTailorRegiment$Part;" } : Jvm.MethodName) prog_12_method_29_code (4 : Nat) (Option.some (Jvm.ClassFile.FieldType.object "TailorRegiment$Part"))) ∈ lw_all := lw_g (lw_at lw_m4 104 rfl) rfl
theorem q938 : (Jvm.Cond.methodLink "TailorRegiment$Reader" (221 : Nat) ({ cls := "TailorRegiment$Reader", name := "isSignHere", desc := "(I)Z" } : Jvm.MethodName)) ∈ lw_all := lw_g (lw_at lw_m4 105 rfl) rfl
theorem q939 : (Jvm.Cond.privateMethod ({ cls := "TailorRegiment$Reader", name := "isSignHere", desc := "(I)Z" } : Jvm.MethodName)) ∈ lw_tbl := lw_at lw_m4 106 rfl
theorem q940 : (Jvm.Cond.instanceMethod ({ cls := "TailorRegiment$Reader", name := "isSignHere", desc := "(I)Z" } : Jvm.MethodName)) ∈ lw_all := lw_g (lw_at lw_m4 107 rfl) rfl
theorem q941 : (Jvm.Cond.code ({ cls := "TailorRegiment$Reader", name := "isSignHere", desc := "(I)Z" } : Jvm.MethodName) prog_12_method_11_code (2 : Nat) (Option.some Jvm.ClassFile.FieldType.boolean)) ∈ lw_all := lw_g (lw_at lw_m4 108 rfl) rfl
theorem q942 : (Jvm.Cond.fieldLink "TailorRegiment$Reader" (230 : Nat) "TailorRegiment$Reader" "NAMED" "[Ljava/lang/String;") ∈ lw_all := lw_g (lw_at lw_m4 109 rfl) rfl
theorem q943 : (Jvm.Cond.laysStatic "TailorRegiment$Reader" "NAMED" "[Ljava/lang/String;") ∈ lw_tbl := lw_at lw_m4 110 rfl
theorem q944 : (Jvm.Cond.classLink "TailorRegiment$Reader" (236 : Nat) "TailorRegiment$Numeral") ∈ lw_all := lw_g (lw_at lw_m4 111 rfl) rfl
theorem q946 : (Jvm.Cond.methodLink "TailorRegiment$Reader" (238 : Nat) ({ cls := "TailorRegiment$Numeral", name := "<init>", desc := "(I)V" } : Jvm.MethodName)) ∈ lw_all := lw_g (lw_at lw_m4 113 rfl) rfl
theorem q954 : (Jvm.Cond.classLink "TailorRegiment$Reader" (241 : Nat) "TailorRegiment$Named") ∈ lw_all := lw_g (lw_at lw_m4 121 rfl) rfl
theorem q956 : (Jvm.Cond.methodLink "TailorRegiment$Reader" (243 : Nat) ({ cls := "TailorRegiment$Named", name := "<init>", desc := "(I)V" } : Jvm.MethodName)) ∈ lw_all := lw_g (lw_at lw_m4 123 rfl) rfl
theorem q964 : (Jvm.Cond.classLink "TailorRegiment$Reader" (198 : Nat) "TailorRegiment$Two") ∈ lw_all := lw_g (lw_at lw_m4 131 rfl) rfl
theorem q966 : (Jvm.Cond.methodLink "TailorRegiment$Reader" (200 : Nat) ({ cls := "TailorRegiment$Two", name := "<init>", desc := "(ILTailorRegiment$Part;LTailorRegiment$Part;)V" } : Jvm.MethodName)) ∈ lw_all := lw_g (lw_at lw_m4 133 rfl) rfl
theorem q980 : (Jvm.Cond.stringRef "TailorRegiment$Reader" (206 : Nat) "and") ∈ lw_tbl := lw_at lw_m4 147 rfl
theorem q981 : (Jvm.Cond.stringRef "TailorRegiment$Reader" (193 : Nat) "or") ∈ lw_tbl := lw_at lw_m4 148 rfl
theorem q2177 : (Jvm.Cond.castable "TailorRegiment$Reader" "java/lang/Object") ∈ lw_tbl := lw_at lw_m9 144 rfl
theorem q2199 : (Jvm.Cond.stringRef "TailorRegiment$Reader" (304 : Nat) "tight") ∈ lw_tbl := lw_at lw_m9 166 rfl
theorem q2200 : (Jvm.Cond.stringRef "TailorRegiment$Reader" (306 : Nat) "loose") ∈ lw_tbl := lw_at lw_m9 167 rfl
theorem q2201 : (Jvm.Cond.stringRef "TailorRegiment$Reader" (308 : Nat) "short") ∈ lw_tbl := lw_at lw_m9 168 rfl
theorem q2202 : (Jvm.Cond.stringRef "TailorRegiment$Reader" (310 : Nat) "long") ∈ lw_tbl := lw_at lw_m9 169 rfl
theorem q2203 : (Jvm.Cond.stringRef "TailorRegiment$Reader" (312 : Nat) "day") ∈ lw_tbl := lw_at lw_m9 170 rfl
theorem q134 : (Jvm.Cond.initialized "TailorRegiment$Called") ∈ lw_all := lw_g (lw_at lw_m1 21 rfl) rfl
theorem q752 : (Jvm.Cond.instanceMethod ({ cls := "TailorRegiment$Called", name := "<init>", desc := "(J)V" } : Jvm.MethodName)) ∈ lw_all := lw_g (lw_at lw_m3 159 rfl) rfl
theorem q753 : (Jvm.Cond.code ({ cls := "TailorRegiment$Called", name := "<init>", desc := "(J)V" } : Jvm.MethodName) prog_2_method_1_code (3 : Nat) (Option.none : Option Jvm.ClassFile.FieldType)) ∈ lw_all := lw_g (lw_at lw_m3 160 rfl) rfl
theorem q754 : (Jvm.Cond.methodLink "TailorRegiment$Called" (1 : Nat) ({ cls := "java/lang/Object", name := "<init>", desc := "()V" } : Jvm.MethodName)) ∈ lw_all := lw_g (lw_at lw_m3 161 rfl) rfl
theorem q758 : (Jvm.Cond.fieldLink "TailorRegiment$Called" (7 : Nat) "TailorRegiment$Called" "name" "J") ∈ lw_all := lw_g (lw_at lw_m3 165 rfl) rfl
theorem q774 : (Jvm.Cond.soleField "TailorRegiment$Called" "name") ∈ lw_all := lw_g (lw_at lw_m3 181 rfl) rfl
theorem q776 : (Jvm.Cond.soleField "TailorRegiment$Called" "tall") ∈ lw_all := lw_g (lw_at lw_m3 183 rfl) rfl
theorem q778 : (Jvm.Cond.soleField "TailorRegiment$Called" "wide") ∈ lw_all := lw_g (lw_at lw_m3 185 rfl) rfl
theorem q135 : (Jvm.Cond.initialized "TailorRegiment$Man") ∈ lw_all := lw_g (lw_at lw_m1 22 rfl) rfl
theorem q690 : (Jvm.Cond.instantiable "TailorRegiment$Man" (4 : Nat)) ∈ lw_all := lw_g (lw_at lw_m3 97 rfl) rfl
theorem q749 : (Jvm.Cond.instanceMethod ({ cls := "TailorRegiment$Man", name := "<init>", desc := "(J)V" } : Jvm.MethodName)) ∈ lw_all := lw_g (lw_at lw_m3 156 rfl) rfl
theorem q750 : (Jvm.Cond.code ({ cls := "TailorRegiment$Man", name := "<init>", desc := "(J)V" } : Jvm.MethodName) prog_7_method_1_code (3 : Nat) (Option.none : Option Jvm.ClassFile.FieldType)) ∈ lw_all := lw_g (lw_at lw_m3 157 rfl) rfl
theorem q751 : (Jvm.Cond.methodLink "TailorRegiment$Man" (1 : Nat) ({ cls := "TailorRegiment$Called", name := "<init>", desc := "(J)V" } : Jvm.MethodName)) ∈ lw_all := lw_g (lw_at lw_m3 158 rfl) rfl
theorem q761 : (Jvm.Cond.sameField "TailorRegiment$Man" "TailorRegiment$Called" "tall" "I") ∈ lw_all := lw_g (lw_at lw_m3 168 rfl) rfl
theorem q767 : (Jvm.Cond.sameField "TailorRegiment$Man" "TailorRegiment$Called" "wide" "I") ∈ lw_all := lw_g (lw_at lw_m3 174 rfl) rfl
theorem q771 : (Jvm.Cond.lays "TailorRegiment$Man" "TailorRegiment$Man" "grows" "I") ∈ lw_all := lw_g (lw_at lw_m3 178 rfl) rfl
theorem q772 : (Jvm.Cond.soleField "TailorRegiment$Man" "grows") ∈ lw_all := lw_g (lw_at lw_m3 179 rfl) rfl
theorem q773 : (Jvm.Cond.laysFinal "TailorRegiment$Man" "TailorRegiment$Called" "name" "J") ∈ lw_all := lw_g (lw_at lw_m3 180 rfl) rfl
theorem q775 : (Jvm.Cond.lays "TailorRegiment$Man" "TailorRegiment$Called" "tall" "I") ∈ lw_all := lw_g (lw_at lw_m3 182 rfl) rfl
theorem q777 : (Jvm.Cond.lays "TailorRegiment$Man" "TailorRegiment$Called" "wide" "I") ∈ lw_all := lw_g (lw_at lw_m3 184 rfl) rfl
theorem q779 : (Jvm.Cond.superclass "TailorRegiment$Man" "TailorRegiment$Called") ∈ lw_all := lw_g (lw_at lw_m3 186 rfl) rfl
theorem q839 : (Jvm.Cond.selects "TailorRegiment$Man" ({ cls := "java/lang/Object", name := "getClass", desc := "()Ljava/lang/Class;" } : Jvm.MethodName) ({ cls := "java/lang/Object", name := "getClass", desc := "()Ljava/lang/Class;" } : Jvm.MethodName)) ∈ lw_all := lw_g (lw_at lw_m4 6 rfl) rfl
theorem q2166 : (Jvm.Cond.castable "TailorRegiment$Man" "TailorRegiment$Called") ∈ lw_tbl := lw_at lw_m9 133 rfl
theorem q2178 : (Jvm.Cond.castable "TailorRegiment$Man" "java/lang/Object") ∈ lw_tbl := lw_at lw_m9 145 rfl
theorem q141 : (Jvm.Cond.initialized "TailorRegiment$Coat") ∈ lw_all := lw_g (lw_at lw_m1 28 rfl) rfl
theorem q763 : (Jvm.Cond.sameField "TailorRegiment$Coat" "TailorRegiment$Called" "tall" "I") ∈ lw_all := lw_g (lw_at lw_m3 170 rfl) rfl
theorem q769 : (Jvm.Cond.sameField "TailorRegiment$Coat" "TailorRegiment$Called" "wide" "I") ∈ lw_all := lw_g (lw_at lw_m3 176 rfl) rfl
theorem q836 : (Jvm.Cond.selects "TailorRegiment$Coat" ({ cls := "java/lang/Object", name := "getClass", desc := "()Ljava/lang/Class;" } : Jvm.MethodName) ({ cls := "java/lang/Object", name := "getClass", desc := "()Ljava/lang/Class;" } : Jvm.MethodName)) ∈ lw_all := lw_g (lw_at lw_m4 3 rfl) rfl
theorem q873 : (Jvm.Cond.instantiable "TailorRegiment$Coat" (5 : Nat)) ∈ lw_all := lw_g (lw_at lw_m4 40 rfl) rfl
theorem q875 : (Jvm.Cond.instanceMethod ({ cls := "TailorRegiment$Coat", name := "<init>", desc := "(J)V" } : Jvm.MethodName)) ∈ lw_all := lw_g (lw_at lw_m4 42 rfl) rfl
theorem q876 : (Jvm.Cond.code ({ cls := "TailorRegiment$Coat", name := "<init>", desc := "(J)V" } : Jvm.MethodName) prog_4_method_1_code (3 : Nat) (Option.none : Option Jvm.ClassFile.FieldType)) ∈ lw_all := lw_g (lw_at lw_m4 43 rfl) rfl
theorem q877 : (Jvm.Cond.methodLink "TailorRegiment$Coat" (1 : Nat) ({ cls := "TailorRegiment$Called", name := "<init>", desc := "(J)V" } : Jvm.MethodName)) ∈ lw_all := lw_g (lw_at lw_m4 44 rfl) rfl
theorem q882 : (Jvm.Cond.lays "TailorRegiment$Coat" "TailorRegiment$Coat" "seam" "I") ∈ lw_all := lw_g (lw_at lw_m4 49 rfl) rfl
theorem q883 : (Jvm.Cond.soleField "TailorRegiment$Coat" "seam") ∈ lw_all := lw_g (lw_at lw_m4 50 rfl) rfl
theorem q884 : (Jvm.Cond.lays "TailorRegiment$Coat" "TailorRegiment$Coat" "worn" "I") ∈ lw_all := lw_g (lw_at lw_m4 51 rfl) rfl
theorem q885 : (Jvm.Cond.soleField "TailorRegiment$Coat" "worn") ∈ lw_all := lw_g (lw_at lw_m4 52 rfl) rfl
theorem q886 : (Jvm.Cond.laysFinal "TailorRegiment$Coat" "TailorRegiment$Called" "name" "J") ∈ lw_all := lw_g (lw_at lw_m4 53 rfl) rfl
theorem q887 : (Jvm.Cond.lays "TailorRegiment$Coat" "TailorRegiment$Called" "tall" "I") ∈ lw_all := lw_g (lw_at lw_m4 54 rfl) rfl
theorem q888 : (Jvm.Cond.lays "TailorRegiment$Coat" "TailorRegiment$Called" "wide" "I") ∈ lw_all := lw_g (lw_at lw_m4 55 rfl) rfl
theorem q889 : (Jvm.Cond.superclass "TailorRegiment$Coat" "TailorRegiment$Called") ∈ lw_all := lw_g (lw_at lw_m4 56 rfl) rfl
theorem q2165 : (Jvm.Cond.castable "TailorRegiment$Coat" "TailorRegiment$Called") ∈ lw_tbl := lw_at lw_m9 132 rfl
theorem q2180 : (Jvm.Cond.castable "TailorRegiment$Coat" "java/lang/Object") ∈ lw_tbl := lw_at lw_m9 147 rfl
theorem q142 : (Jvm.Cond.initialized "TailorRegiment$Part") ∈ lw_all := lw_g (lw_at lw_m1 29 rfl) rfl
theorem q919 : (Jvm.Cond.instanceMethod ({ cls := "TailorRegiment$Part", name := "<init>", desc := "()V" } : Jvm.MethodName)) ∈ lw_all := lw_g (lw_at lw_m4 86 rfl) rfl
theorem q920 : (Jvm.Cond.code ({ cls := "TailorRegiment$Part", name := "<init>", desc := "()V" } : Jvm.MethodName) prog_11_method_1_code (1 : Nat) (Option.none : Option Jvm.ClassFile.FieldType)) ∈ lw_all := lw_g (lw_at lw_m4 87 rfl) rfl
theorem q921 : (Jvm.Cond.methodLink "TailorRegiment$Part" (1 : Nat) ({ cls := "java/lang/Object", name := "<init>", desc := "()V" } : Jvm.MethodName)) ∈ lw_all := lw_g (lw_at lw_m4 88 rfl) rfl
theorem q1025 : (Jvm.Cond.declares ({ cls := "TailorRegiment$Part", name := "of", desc := "([I)I" } : Jvm.MethodName)) ∈ lw_tbl := lw_at lw_m4 192 rfl
theorem q1026 : (Jvm.Cond.sameMethod "TailorRegiment$Part" "TailorRegiment$Part" "of" "([I)I") ∈ lw_all := lw_g (lw_at lw_m4 193 rfl) rfl
theorem q143 : (Jvm.Cond.initialized "TailorRegiment$Not") ∈ lw_all := lw_g (lw_at lw_m1 30 rfl) rfl
theorem q841 : (Jvm.Cond.selects "TailorRegiment$Not" ({ cls := "java/lang/Object", name := "getClass", desc := "()Ljava/lang/Class;" } : Jvm.MethodName) ({ cls := "java/lang/Object", name := "getClass", desc := "()Ljava/lang/Class;" } : Jvm.MethodName)) ∈ lw_all := lw_g (lw_at lw_m4 8 rfl) rfl
theorem q914 : (Jvm.Cond.instantiable "TailorRegiment$Not" (1 : Nat)) ∈ lw_all := lw_g (lw_at lw_m4 81 rfl) rfl
theorem q916 : (Jvm.Cond.instanceMethod ({ cls := "TailorRegiment$Not", name := "<init>", desc := "(LTailorRegiment$Part;)V" } : Jvm.MethodName)) ∈ lw_all := lw_g (lw_at lw_m4 83 rfl) rfl
theorem q917 : (Jvm.Cond.code ({ cls := "TailorRegiment$Not", name := "<init>", desc := "(LTailorRegiment$Part;)V" } : Jvm.MethodName) prog_9_method_1_code (2 : Nat) (Option.none : Option Jvm.ClassFile.FieldType)) ∈ lw_all := lw_g (lw_at lw_m4 84 rfl) rfl
theorem q918 : (Jvm.Cond.methodLinkNest "TailorRegiment$Not" (1 : Nat) ({ cls := "TailorRegiment$Part", name := "<init>", desc := "()V" } : Jvm.MethodName) "TailorRegiment") ∈ lw_tbl := lw_at lw_m4 85 rfl
theorem q922 : (Jvm.Cond.fieldLink "TailorRegiment$Not" (7 : Nat) "TailorRegiment$Not" "a" "LTailorRegiment$Part;") ∈ lw_all := lw_g (lw_at lw_m4 89 rfl) rfl
theorem q923 : (Jvm.Cond.laysFinal "TailorRegiment$Not" "TailorRegiment$Not" "a" "LTailorRegiment$Part;") ∈ lw_all := lw_g (lw_at lw_m4 90 rfl) rfl
theorem q924 : (Jvm.Cond.soleField "TailorRegiment$Not" "a") ∈ lw_all := lw_g (lw_at lw_m4 91 rfl) rfl
theorem q925 : (Jvm.Cond.superclass "TailorRegiment$Not" "TailorRegiment$Part") ∈ lw_all := lw_g (lw_at lw_m4 92 rfl) rfl
theorem q1030 : (Jvm.Cond.selects "TailorRegiment$Not" ({ cls := "TailorRegiment$Part", name := "of", desc := "([I)I" } : Jvm.MethodName) ({ cls := "TailorRegiment$Not", name := "of", desc := "([I)I" } : Jvm.MethodName)) ∈ lw_all := lw_g (lw_at lw_m4 197 rfl) rfl
theorem q1031 : (Jvm.Cond.instanceMethod ({ cls := "TailorRegiment$Not", name := "of", desc := "([I)I" } : Jvm.MethodName)) ∈ lw_all := lw_g (lw_at lw_m4 198 rfl) rfl
theorem q1032 : (Jvm.Cond.code ({ cls := "TailorRegiment$Not", name := "of", desc := "([I)I" } : Jvm.MethodName) prog_9_method_2_code (2 : Nat) (Option.some Jvm.ClassFile.FieldType.int)) ∈ lw_all := lw_g (lw_at lw_m4 199 rfl) rfl
theorem q1033 : (Jvm.Cond.methodLink "TailorRegiment$Not" (13 : Nat) ({ cls := "TailorRegiment$Part", name := "of", desc := "([I)I" } : Jvm.MethodName)) ∈ lw_all := lw_g (lw_at lw_m4 200 rfl) rfl
theorem q2181 : (Jvm.Cond.castable "TailorRegiment$Not" "java/lang/Object") ∈ lw_tbl := lw_at lw_m9 148 rfl
theorem q144 : (Jvm.Cond.initialized "TailorRegiment$Numeral") ∈ lw_all := lw_g (lw_at lw_m1 31 rfl) rfl
theorem q842 : (Jvm.Cond.selects "TailorRegiment$Numeral" ({ cls := "java/lang/Object", name := "getClass", desc := "()Ljava/lang/Class;" } : Jvm.MethodName) ({ cls := "java/lang/Object", name := "getClass", desc := "()Ljava/lang/Class;" } : Jvm.MethodName)) ∈ lw_all := lw_g (lw_at lw_m4 9 rfl) rfl
theorem q945 : (Jvm.Cond.instantiable "TailorRegiment$Numeral" (1 : Nat)) ∈ lw_all := lw_g (lw_at lw_m4 112 rfl) rfl
theorem q947 : (Jvm.Cond.instanceMethod ({ cls := "TailorRegiment$Numeral", name := "<init>", desc := "(I)V" } : Jvm.MethodName)) ∈ lw_all := lw_g (lw_at lw_m4 114 rfl) rfl
theorem q948 : (Jvm.Cond.code ({ cls := "TailorRegiment$Numeral", name := "<init>", desc := "(I)V" } : Jvm.MethodName) prog_10_method_1_code (2 : Nat) (Option.none : Option Jvm.ClassFile.FieldType)) ∈ lw_all := lw_g (lw_at lw_m4 115 rfl) rfl
theorem q949 : (Jvm.Cond.methodLinkNest "TailorRegiment$Numeral" (1 : Nat) ({ cls := "TailorRegiment$Part", name := "<init>", desc := "()V" } : Jvm.MethodName) "TailorRegiment") ∈ lw_tbl := lw_at lw_m4 116 rfl
theorem q950 : (Jvm.Cond.fieldLink "TailorRegiment$Numeral" (7 : Nat) "TailorRegiment$Numeral" "v" "I") ∈ lw_all := lw_g (lw_at lw_m4 117 rfl) rfl
theorem q951 : (Jvm.Cond.laysFinal "TailorRegiment$Numeral" "TailorRegiment$Numeral" "v" "I") ∈ lw_all := lw_g (lw_at lw_m4 118 rfl) rfl
theorem q952 : (Jvm.Cond.soleField "TailorRegiment$Numeral" "v") ∈ lw_all := lw_g (lw_at lw_m4 119 rfl) rfl
theorem q953 : (Jvm.Cond.superclass "TailorRegiment$Numeral" "TailorRegiment$Part") ∈ lw_all := lw_g (lw_at lw_m4 120 rfl) rfl
theorem q1034 : (Jvm.Cond.instanceMethod ({ cls := "TailorRegiment$Numeral", name := "of", desc := "([I)I" } : Jvm.MethodName)) ∈ lw_all := lw_g (lw_at lw_m4 201 rfl) rfl
theorem q1035 : (Jvm.Cond.code ({ cls := "TailorRegiment$Numeral", name := "of", desc := "([I)I" } : Jvm.MethodName) prog_10_method_2_code (2 : Nat) (Option.some Jvm.ClassFile.FieldType.int)) ∈ lw_all := lw_g (lw_at lw_m4 202 rfl) rfl
theorem q1042 : (Jvm.Cond.selects "TailorRegiment$Numeral" ({ cls := "TailorRegiment$Part", name := "of", desc := "([I)I" } : Jvm.MethodName) ({ cls := "TailorRegiment$Numeral", name := "of", desc := "([I)I" } : Jvm.MethodName)) ∈ lw_all := lw_g (lw_at lw_m4 209 rfl) rfl
theorem q2182 : (Jvm.Cond.castable "TailorRegiment$Numeral" "java/lang/Object") ∈ lw_tbl := lw_at lw_m9 149 rfl
theorem q145 : (Jvm.Cond.initialized "TailorRegiment$Named") ∈ lw_all := lw_g (lw_at lw_m1 32 rfl) rfl
theorem q840 : (Jvm.Cond.selects "TailorRegiment$Named" ({ cls := "java/lang/Object", name := "getClass", desc := "()Ljava/lang/Class;" } : Jvm.MethodName) ({ cls := "java/lang/Object", name := "getClass", desc := "()Ljava/lang/Class;" } : Jvm.MethodName)) ∈ lw_all := lw_g (lw_at lw_m4 7 rfl) rfl
theorem q955 : (Jvm.Cond.instantiable "TailorRegiment$Named" (1 : Nat)) ∈ lw_all := lw_g (lw_at lw_m4 122 rfl) rfl
theorem q957 : (Jvm.Cond.instanceMethod ({ cls := "TailorRegiment$Named", name := "<init>", desc := "(I)V" } : Jvm.MethodName)) ∈ lw_all := lw_g (lw_at lw_m4 124 rfl) rfl
theorem q958 : (Jvm.Cond.code ({ cls := "TailorRegiment$Named", name := "<init>", desc := "(I)V" } : Jvm.MethodName) prog_8_method_1_code (2 : Nat) (Option.none : Option Jvm.ClassFile.FieldType)) ∈ lw_all := lw_g (lw_at lw_m4 125 rfl) rfl
theorem q959 : (Jvm.Cond.methodLinkNest "TailorRegiment$Named" (1 : Nat) ({ cls := "TailorRegiment$Part", name := "<init>", desc := "()V" } : Jvm.MethodName) "TailorRegiment") ∈ lw_tbl := lw_at lw_m4 126 rfl
theorem q960 : (Jvm.Cond.fieldLink "TailorRegiment$Named" (7 : Nat) "TailorRegiment$Named" "which" "I") ∈ lw_all := lw_g (lw_at lw_m4 127 rfl) rfl
theorem q961 : (Jvm.Cond.laysFinal "TailorRegiment$Named" "TailorRegiment$Named" "which" "I") ∈ lw_all := lw_g (lw_at lw_m4 128 rfl) rfl
theorem q962 : (Jvm.Cond.soleField "TailorRegiment$Named" "which") ∈ lw_all := lw_g (lw_at lw_m4 129 rfl) rfl
theorem q963 : (Jvm.Cond.superclass "TailorRegiment$Named" "TailorRegiment$Part") ∈ lw_all := lw_g (lw_at lw_m4 130 rfl) rfl
theorem q1027 : (Jvm.Cond.selects "TailorRegiment$Named" ({ cls := "TailorRegiment$Part", name := "of", desc := "([I)I" } : Jvm.MethodName) ({ cls := "TailorRegiment$Named", name := "of", desc := "([I)I" } : Jvm.MethodName)) ∈ lw_all := lw_g (lw_at lw_m4 194 rfl) rfl
theorem q1028 : (Jvm.Cond.instanceMethod ({ cls := "TailorRegiment$Named", name := "of", desc := "([I)I" } : Jvm.MethodName)) ∈ lw_all := lw_g (lw_at lw_m4 195 rfl) rfl
theorem q1029 : (Jvm.Cond.code ({ cls := "TailorRegiment$Named", name := "of", desc := "([I)I" } : Jvm.MethodName) prog_8_method_2_code (2 : Nat) (Option.some Jvm.ClassFile.FieldType.int)) ∈ lw_all := lw_g (lw_at lw_m4 196 rfl) rfl
theorem q2183 : (Jvm.Cond.castable "TailorRegiment$Named" "java/lang/Object") ∈ lw_tbl := lw_at lw_m9 150 rfl
theorem q146 : (Jvm.Cond.initialized "TailorRegiment$Two") ∈ lw_all := lw_g (lw_at lw_m1 33 rfl) rfl
theorem q847 : (Jvm.Cond.selects "TailorRegiment$Two" ({ cls := "java/lang/Object", name := "getClass", desc := "()Ljava/lang/Class;" } : Jvm.MethodName) ({ cls := "java/lang/Object", name := "getClass", desc := "()Ljava/lang/Class;" } : Jvm.MethodName)) ∈ lw_all := lw_g (lw_at lw_m4 14 rfl) rfl
theorem q965 : (Jvm.Cond.instantiable "TailorRegiment$Two" (3 : Nat)) ∈ lw_all := lw_g (lw_at lw_m4 132 rfl) rfl
theorem q967 : (Jvm.Cond.instanceMethod ({ cls := "TailorRegiment$Two", name := "<init>", desc := "(ILTailorRegiment$Part;LTailorRegiment$Part;)V" } : Jvm.MethodName)) ∈ lw_all := lw_g (lw_at lw_m4 134 rfl) rfl
theorem q968 : (Jvm.Cond.code ({ cls := "TailorRegiment$Two", name := "<init>", desc := "(ILTailorRegiment$Part;LTailorRegiment$Part;)V" } : Jvm.MethodName) prog_16_method_1_code (4 : Nat) (Option.none : Option Jvm.ClassFile.FieldType)) ∈ lw_all := lw_g (lw_at lw_m4 135 rfl) rfl
theorem q969 : (Jvm.Cond.methodLinkNest "TailorRegiment$Two" (1 : Nat) ({ cls := "TailorRegiment$Part", name := "<init>", desc := "()V" } : Jvm.MethodName) "TailorRegiment") ∈ lw_tbl := lw_at lw_m4 136 rfl
theorem q970 : (Jvm.Cond.fieldLink "TailorRegiment$Two" (7 : Nat) "TailorRegiment$Two" "sign" "I") ∈ lw_all := lw_g (lw_at lw_m4 137 rfl) rfl
theorem q971 : (Jvm.Cond.fieldLink "TailorRegiment$Two" (13 : Nat) "TailorRegiment$Two" "a" "LTailorRegiment$Part;") ∈ lw_all := lw_g (lw_at lw_m4 138 rfl) rfl
theorem q972 : (Jvm.Cond.fieldLink "TailorRegiment$Two" (17 : Nat) "TailorRegiment$Two" "b" "LTailorRegiment$Part;") ∈ lw_all := lw_g (lw_at lw_m4 139 rfl) rfl
theorem q973 : (Jvm.Cond.laysFinal "TailorRegiment$Two" "TailorRegiment$Two" "sign" "I") ∈ lw_all := lw_g (lw_at lw_m4 140 rfl) rfl
theorem q974 : (Jvm.Cond.soleField "TailorRegiment$Two" "sign") ∈ lw_all := lw_g (lw_at lw_m4 141 rfl) rfl
theorem q975 : (Jvm.Cond.laysFinal "TailorRegiment$Two" "TailorRegiment$Two" "a" "LTailorRegiment$Part;") ∈ lw_all := lw_g (lw_at lw_m4 142 rfl) rfl
theorem q976 : (Jvm.Cond.soleField "TailorRegiment$Two" "a") ∈ lw_all := lw_g (lw_at lw_m4 143 rfl) rfl
theorem q977 : (Jvm.Cond.laysFinal "TailorRegiment$Two" "TailorRegiment$Two" "b" "LTailorRegiment$Part;") ∈ lw_all := lw_g (lw_at lw_m4 144 rfl) rfl
theorem q978 : (Jvm.Cond.soleField "TailorRegiment$Two" "b") ∈ lw_all := lw_g (lw_at lw_m4 145 rfl) rfl
theorem q979 : (Jvm.Cond.superclass "TailorRegiment$Two" "TailorRegiment$Part") ∈ lw_all := lw_g (lw_at lw_m4 146 rfl) rfl
theorem q1036 : (Jvm.Cond.instanceMethod ({ cls := "TailorRegiment$Two", name := "of", desc := "([I)I" } : Jvm.MethodName)) ∈ lw_all := lw_g (lw_at lw_m4 203 rfl) rfl
theorem q1037 : (Jvm.Cond.code ({ cls := "TailorRegiment$Two", name := "of", desc := "([I)I" } : Jvm.MethodName) prog_16_method_3_code (4 : Nat) (Option.some Jvm.ClassFile.FieldType.int)) ∈ lw_all := lw_g (lw_at lw_m4 204 rfl) rfl
theorem q1038 : (Jvm.Cond.methodLink "TailorRegiment$Two" (20 : Nat) ({ cls := "TailorRegiment$Part", name := "of", desc := "([I)I" } : Jvm.MethodName)) ∈ lw_all := lw_g (lw_at lw_m4 205 rfl) rfl
theorem q1039 : (Jvm.Cond.methodLink "TailorRegiment$Two" (24 : Nat) ({ cls := "TailorRegiment$Two", name := "is", desc := "(Z)I" } : Jvm.MethodName)) ∈ lw_all := lw_g (lw_at lw_m4 206 rfl) rfl
theorem q1040 : (Jvm.Cond.static ({ cls := "TailorRegiment$Two", name := "is", desc := "(Z)I" } : Jvm.MethodName)) ∈ lw_all := lw_g (lw_at lw_m4 207 rfl) rfl
theorem q1041 : (Jvm.Cond.code ({ cls := "TailorRegiment$Two", name := "is", desc := "(Z)I" } : Jvm.MethodName) prog_16_method_2_code (1 : Nat) (Option.some Jvm.ClassFile.FieldType.int)) ∈ lw_all := lw_g (lw_at lw_m4 208 rfl) rfl
theorem q1043 : (Jvm.Cond.selects "TailorRegiment$Two" ({ cls := "TailorRegiment$Part", name := "of", desc := "([I)I" } : Jvm.MethodName) ({ cls := "TailorRegiment$Two", name := "of", desc := "([I)I" } : Jvm.MethodName)) ∈ lw_all := lw_g (lw_at lw_m4 210 rfl) rfl
theorem q2184 : (Jvm.Cond.castable "TailorRegiment$Two" "java/lang/Object") ∈ lw_tbl := lw_at lw_m9 151 rfl
theorem q148 : (Jvm.Cond.initialized "TailorRegiment$Sight") ∈ lw_all := lw_g (lw_at lw_m1 35 rfl) rfl
theorem q845 : (Jvm.Cond.selects "TailorRegiment$Sight" ({ cls := "java/lang/Object", name := "getClass", desc := "()Ljava/lang/Class;" } : Jvm.MethodName) ({ cls := "java/lang/Object", name := "getClass", desc := "()Ljava/lang/Class;" } : Jvm.MethodName)) ∈ lw_all := lw_g (lw_at lw_m4 12 rfl) rfl
theorem q1341 : (Jvm.Cond.instantiable "TailorRegiment$Sight" (4 : Nat)) ∈ lw_all := lw_g (lw_at lw_m6 28 rfl) rfl
theorem q1343 : (Jvm.Cond.instanceMethod ({ cls := "TailorRegiment$Sight", name := "<init>", desc := "(IZI)V" } : Jvm.MethodName)) ∈ lw_all := lw_g (lw_at lw_m6 30 rfl) rfl
theorem q1344 : (Jvm.Cond.code ({ cls := "TailorRegiment$Sight", name := "<init>", desc := "(IZI)V" } : Jvm.MethodName) prog_14_method_1_code (4 : Nat) (Option.none : Option Jvm.ClassFile.FieldType)) ∈ lw_all := lw_g (lw_at lw_m6 31 rfl) rfl
theorem q1345 : (Jvm.Cond.methodLink "TailorRegiment$Sight" (3 : Nat) ({ cls := "java/lang/Object", name := "<init>", desc := "()V" } : Jvm.MethodName)) ∈ lw_all := lw_g (lw_at lw_m6 32 rfl) rfl
theorem q1346 : (Jvm.Cond.fieldLink "TailorRegiment$Sight" (15 : Nat) "TailorRegiment$Sight" "days" "I") ∈ lw_all := lw_g (lw_at lw_m6 33 rfl) rfl
theorem q1348 : (Jvm.Cond.fieldLink "TailorRegiment$Sight" (22 : Nat) "TailorRegiment$Sight" "told" "I") ∈ lw_all := lw_g (lw_at lw_m6 35 rfl) rfl
theorem q1349 : (Jvm.Cond.fieldLink "TailorRegiment$Sight" (18 : Nat) "TailorRegiment$Sight" "is" "Z") ∈ lw_all := lw_g (lw_at lw_m6 36 rfl) rfl
theorem q1351 : (Jvm.Cond.fieldLink "TailorRegiment$Sight" (9 : Nat) "TailorRegiment$Sight" "untold" "I") ∈ lw_all := lw_g (lw_at lw_m6 38 rfl) rfl
theorem q1353 : (Jvm.Cond.laysFinal "TailorRegiment$Sight" "TailorRegiment$Sight" "days" "I") ∈ lw_all := lw_g (lw_at lw_m6 40 rfl) rfl
theorem q1354 : (Jvm.Cond.soleField "TailorRegiment$Sight" "days") ∈ lw_all := lw_g (lw_at lw_m6 41 rfl) rfl
theorem q1355 : (Jvm.Cond.laysFinal "TailorRegiment$Sight" "TailorRegiment$Sight" "told" "I") ∈ lw_all := lw_g (lw_at lw_m6 42 rfl) rfl
theorem q1356 : (Jvm.Cond.soleField "TailorRegiment$Sight" "told") ∈ lw_all := lw_g (lw_at lw_m6 43 rfl) rfl
theorem q1357 : (Jvm.Cond.laysFinal "TailorRegiment$Sight" "TailorRegiment$Sight" "is" "Z") ∈ lw_all := lw_g (lw_at lw_m6 44 rfl) rfl
theorem q1358 : (Jvm.Cond.soleField "TailorRegiment$Sight" "is") ∈ lw_all := lw_g (lw_at lw_m6 45 rfl) rfl
theorem q1359 : (Jvm.Cond.lays "TailorRegiment$Sight" "TailorRegiment$Sight" "untold" "I") ∈ lw_all := lw_g (lw_at lw_m6 46 rfl) rfl
theorem q1360 : (Jvm.Cond.soleField "TailorRegiment$Sight" "untold") ∈ lw_all := lw_g (lw_at lw_m6 47 rfl) rfl
theorem q1361 : (Jvm.Cond.superclass "TailorRegiment$Sight" "java/lang/Object") ∈ lw_all := lw_g (lw_at lw_m6 48 rfl) rfl
theorem q1389 : (Jvm.Cond.instanceMethod ({ cls := "TailorRegiment$Sight", name := "counts", desc := "(I)Z" } : Jvm.MethodName)) ∈ lw_all := lw_g (lw_at lw_m6 76 rfl) rfl
theorem q1390 : (Jvm.Cond.selects "TailorRegiment$Sight" ({ cls := "TailorRegiment$Sight", name := "counts", desc := "(I)Z" } : Jvm.MethodName) ({ cls := "TailorRegiment$Sight", name := "counts", desc := "(I)Z" } : Jvm.MethodName)) ∈ lw_all := lw_g (lw_at lw_m6 77 rfl) rfl
theorem q1391 : (Jvm.Cond.code ({ cls := "TailorRegiment$Sight", name := "counts", desc := "(I)Z" } : Jvm.MethodName) prog_14_method_2_code (2 : Nat) (Option.some Jvm.ClassFile.FieldType.boolean)) ∈ lw_all := lw_g (lw_at lw_m6 78 rfl) rfl
theorem q2185 : (Jvm.Cond.castable "TailorRegiment$Sight" "java/lang/Object") ∈ lw_tbl := lw_at lw_m9 152 rfl
theorem q116 : (Jvm.Cond.initialized "java/util/AbstractCollection") ∈ lw_all := lw_g (lw_at lw_m1 3 rfl) rfl
theorem q172 : (Jvm.Cond.instanceMethod ({ cls := "java/util/AbstractCollection", name := "<init>", desc := "()V" } : Jvm.MethodName)) ∈ lw_all := lw_g (lw_at lw_m1 59 rfl) rfl
theorem q173 : (Jvm.Cond.code ({ cls := "java/util/AbstractCollection", name := "<init>", desc := "()V" } : Jvm.MethodName) prog_36_method_1_code (1 : Nat) (Option.none : Option Jvm.ClassFile.FieldType)) ∈ lw_all := lw_g (lw_at lw_m1 60 rfl) rfl
theorem q174 : (Jvm.Cond.methodLink "java/util/AbstractCollection" (1 : Nat) ({ cls := "java/lang/Object", name := "<init>", desc := "()V" } : Jvm.MethodName)) ∈ lw_all := lw_g (lw_at lw_m1 61 rfl) rfl
theorem q117 : (Jvm.Cond.initialized "java/util/AbstractList") ∈ lw_all := lw_g (lw_at lw_m1 4 rfl) rfl
theorem q169 : (Jvm.Cond.instanceMethod ({ cls := "java/util/AbstractList", name := "<init>", desc := "()V" } : Jvm.MethodName)) ∈ lw_all := lw_g (lw_at lw_m1 56 rfl) rfl
theorem q170 : (Jvm.Cond.code ({ cls := "java/util/AbstractList", name := "<init>", desc := "()V" } : Jvm.MethodName) prog_37_method_1_code (1 : Nat) (Option.none : Option Jvm.ClassFile.FieldType)) ∈ lw_all := lw_g (lw_at lw_m1 57 rfl) rfl
theorem q171 : (Jvm.Cond.methodLink "java/util/AbstractList" (1 : Nat) ({ cls := "java/util/AbstractCollection", name := "<init>", desc := "()V" } : Jvm.MethodName)) ∈ lw_all := lw_g (lw_at lw_m1 58 rfl) rfl
theorem q181 : (Jvm.Cond.fieldLink "java/util/AbstractList" (7 : Nat) "java/util/AbstractList" "modCount" "I") ∈ lw_all := lw_g (lw_at lw_m1 68 rfl) rfl
theorem q190 : (Jvm.Cond.soleField "java/util/AbstractList" "modCount") ∈ lw_all := lw_g (lw_at lw_m1 77 rfl) rfl
theorem q118 : (Jvm.Cond.initialized "java/util/ArrayList") ∈ lw_all := lw_g (lw_at lw_m1 5 rfl) rfl
theorem q164 : (Jvm.Cond.instantiable "java/util/ArrayList" (3 : Nat)) ∈ lw_all := lw_g (lw_at lw_m1 51 rfl) rfl
theorem q166 : (Jvm.Cond.instanceMethod ({ cls := "java/util/ArrayList", name := "<init>", desc := "()V" } : Jvm.MethodName)) ∈ lw_all := lw_g (lw_at lw_m1 53 rfl) rfl
theorem q167 : (Jvm.Cond.code ({ cls := "java/util/ArrayList", name := "<init>", desc := "()V" } : Jvm.MethodName) prog_38_method_2_code (1 : Nat) (Option.none : Option Jvm.ClassFile.FieldType)) ∈ lw_all := lw_g (lw_at lw_m1 54 rfl) rfl
theorem q168 : (Jvm.Cond.methodLink "java/util/ArrayList" (1 : Nat) ({ cls := "java/util/AbstractList", name := "<init>", desc := "()V" } : Jvm.MethodName)) ∈ lw_all := lw_g (lw_at lw_m1 55 rfl) rfl
theorem q175 : (Jvm.Cond.fieldLink "java/util/ArrayList" (39 : Nat) "java/util/ArrayList" "DEFAULTCAPACITY_EMPTY_ELEMENTDATA" "[Ljava/lang/Object;") ∈ lw_all := lw_g (lw_at lw_m1 62 rfl) rfl
theorem q176 : (Jvm.Cond.laysStatic "java/util/ArrayList" "DEFAULTCAPACITY_EMPTY_ELEMENTDATA" "[Ljava/lang/Object;") ∈ lw_tbl := lw_at lw_m1 63 rfl
theorem q177 : (Jvm.Cond.fieldLink "java/util/ArrayList" (9 : Nat) "java/util/ArrayList" "elementData" "[Ljava/lang/Object;") ∈ lw_all := lw_g (lw_at lw_m1 64 rfl) rfl
theorem q180 : (Jvm.Cond.fieldLink "java/util/ArrayList" (48 : Nat) "java/util/ArrayList" "size" "I") ∈ lw_all := lw_g (lw_at lw_m1 67 rfl) rfl
theorem q183 : (Jvm.Cond.sameField "java/util/ArrayList" "java/util/AbstractList" "modCount" "I") ∈ lw_all := lw_g (lw_at lw_m1 70 rfl) rfl
theorem q184 : (Jvm.Cond.fieldLink "java/util/ArrayList" (63 : Nat) "java/util/ArrayList" "modCount" "I") ∈ lw_all := lw_g (lw_at lw_m1 71 rfl) rfl
theorem q185 : (Jvm.Cond.lays "java/util/ArrayList" "java/util/ArrayList" "elementData" "[Ljava/lang/Object;") ∈ lw_all := lw_g (lw_at lw_m1 72 rfl) rfl
theorem q186 : (Jvm.Cond.soleField "java/util/ArrayList" "elementData") ∈ lw_all := lw_g (lw_at lw_m1 73 rfl) rfl
theorem q187 : (Jvm.Cond.lays "java/util/ArrayList" "java/util/ArrayList" "size" "I") ∈ lw_all := lw_g (lw_at lw_m1 74 rfl) rfl
theorem q188 : (Jvm.Cond.soleField "java/util/ArrayList" "size") ∈ lw_all := lw_g (lw_at lw_m1 75 rfl) rfl
theorem q189 : (Jvm.Cond.lays "java/util/ArrayList" "java/util/AbstractList" "modCount" "I") ∈ lw_all := lw_g (lw_at lw_m1 76 rfl) rfl
theorem q191 : (Jvm.Cond.superclass "java/util/ArrayList" "java/util/AbstractList") ∈ lw_all := lw_g (lw_at lw_m1 78 rfl) rfl
theorem q428 : (Jvm.Cond.instanceMethod ({ cls := "java/util/ArrayList", name := "size", desc := "()I" } : Jvm.MethodName)) ∈ lw_all := lw_g (lw_at lw_m2 75 rfl) rfl
theorem q429 : (Jvm.Cond.selects "java/util/ArrayList" ({ cls := "java/util/ArrayList", name := "size", desc := "()I" } : Jvm.MethodName) ({ cls := "java/util/ArrayList", name := "size", desc := "()I" } : Jvm.MethodName)) ∈ lw_all := lw_g (lw_at lw_m2 76 rfl) rfl
theorem q430 : (Jvm.Cond.code ({ cls := "java/util/ArrayList", name := "size", desc := "()I" } : Jvm.MethodName) prog_38_method_8_code (1 : Nat) (Option.some Jvm.ClassFile.FieldType.int)) ∈ lw_all := lw_g (lw_at lw_m2 77 rfl) rfl
theorem q432 : (Jvm.Cond.instanceMethod ({ cls := "java/util/ArrayList", name := "get", desc := "(I)Ljava/lang/Object;" } : Jvm.MethodName)) ∈ lw_all := lw_g (lw_at lw_m2 79 rfl) rfl
theorem q433 : (Jvm.Cond.selects "java/util/ArrayList" ({ cls := "java/util/ArrayList", name := "get", desc := "(I)Ljava/lang/Object;" } : Jvm.MethodName) ({ cls := "java/util/ArrayList", name := "get", desc := "(I)Ljava/lang/Object;" } : Jvm.MethodName)) ∈ lw_all := lw_g (lw_at lw_m2 80 rfl) rfl
theorem q434 : (Jvm.Cond.code ({ cls := "java/util/ArrayList", name := "get", desc := "(I)Ljava/lang/Object;" } : Jvm.MethodName) prog_38_method_20_code (2 : Nat) (Option.some (Jvm.ClassFile.FieldType.object "java/lang/Object"))) ∈ lw_all := lw_g (lw_at lw_m2 81 rfl) rfl
theorem q435 : (Jvm.Cond.methodLink "java/util/ArrayList" (118 : Nat) ({ cls := "java/util/Objects", name := "checkIndex", desc := "(II)I" } : Jvm.MethodName)) ∈ lw_all := lw_g (lw_at lw_m2 82 rfl) rfl
theorem q441 : (Jvm.Cond.methodLink "java/util/ArrayList" (123 : Nat) ({ cls := "java/util/ArrayList", name := "elementData", desc := "(I)Ljava/lang/Object;" } : Jvm.MethodName)) ∈ lw_all := lw_g (lw_at lw_m2 88 rfl) rfl
theorem q442 : (Jvm.Cond.instanceMethod ({ cls := "java/util/ArrayList", name := "elementData", desc := "(I)Ljava/lang/Object;" } : Jvm.MethodName)) ∈ lw_all := lw_g (lw_at lw_m2 89 rfl) rfl
theorem q443 : (Jvm.Cond.selects "java/util/ArrayList" ({ cls := "java/util/ArrayList", name := "elementData", desc := "(I)Ljava/lang/Object;" } : Jvm.MethodName) ({ cls := "java/util/ArrayList", name := "elementData", desc := "(I)Ljava/lang/Object;" } : Jvm.MethodName)) ∈ lw_all := lw_g (lw_at lw_m2 90 rfl) rfl
theorem q444 : (Jvm.Cond.code ({ cls := "java/util/ArrayList", name := "elementData", desc := "(I)Ljava/lang/Object;" } : Jvm.MethodName) prog_38_method_18_code (2 : Nat) (Option.some (Jvm.ClassFile.FieldType.object "java/lang/Object"))) ∈ lw_all := lw_g (lw_at lw_m2 91 rfl) rfl
theorem q448 : (Jvm.Cond.instanceMethod ({ cls := "java/util/ArrayList", name := "clear", desc := "()V" } : Jvm.MethodName)) ∈ lw_all := lw_g (lw_at lw_m2 95 rfl) rfl
theorem q449 : (Jvm.Cond.selects "java/util/ArrayList" ({ cls := "java/util/ArrayList", name := "clear", desc := "()V" } : Jvm.MethodName) ({ cls := "java/util/ArrayList", name := "clear", desc := "()V" } : Jvm.MethodName)) ∈ lw_all := lw_g (lw_at lw_m2 96 rfl) rfl
theorem q450 : (Jvm.Cond.code ({ cls := "java/util/ArrayList", name := "clear", desc := "()V" } : Jvm.MethodName) prog_38_method_40_code (4 : Nat) (Option.none : Option Jvm.ClassFile.FieldType)) ∈ lw_all := lw_g (lw_at lw_m2 97 rfl) rfl
theorem q702 : (Jvm.Cond.instanceMethod ({ cls := "java/util/ArrayList", name := "iterator", desc := "()Ljava/util/Iterator;" } : Jvm.MethodName)) ∈ lw_all := lw_g (lw_at lw_m3 109 rfl) rfl
theorem q703 : (Jvm.Cond.selects "java/util/ArrayList" ({ cls := "java/util/ArrayList", name := "iterator", desc := "()Ljava/util/Iterator;" } : Jvm.MethodName) ({ cls := "java/util/ArrayList", name := "iterator", desc := "()Ljava/util/Iterator;" } : Jvm.MethodName)) ∈ lw_all := lw_g (lw_at lw_m3 110 rfl) rfl
theorem q704 : (Jvm.Cond.code ({ cls := "java/util/ArrayList", name := "iterator", desc := "()Ljava/util/Iterator;" } : Jvm.MethodName) prog_38_method_55_code (1 : Nat) (Option.some (Jvm.ClassFile.FieldType.object "java/util/Iterator"))) ∈ lw_all := lw_g (lw_at lw_m3 111 rfl) rfl
theorem q705 : (Jvm.Cond.classLink "java/util/ArrayList" (267 : Nat) "java/util/ArrayList$Itr") ∈ lw_all := lw_g (lw_at lw_m3 112 rfl) rfl
theorem q707 : (Jvm.Cond.methodLink "java/util/ArrayList" (269 : Nat) ({ cls := "java/util/ArrayList$Itr", name := "<init>", desc := "(Ljava/util/ArrayList;)V" } : Jvm.MethodName)) ∈ lw_all := lw_g (lw_at lw_m3 114 rfl) rfl
theorem q804 : (Jvm.Cond.instanceMethod ({ cls := "java/util/ArrayList", name := "add", desc := "(Ljava/lang/Object;)Z" } : Jvm.MethodName)) ∈ lw_all := lw_g (lw_at lw_m3 211 rfl) rfl
theorem q805 : (Jvm.Cond.selects "java/util/ArrayList" ({ cls := "java/util/ArrayList", name := "add", desc := "(Ljava/lang/Object;)Z" } : Jvm.MethodName) ({ cls := "java/util/ArrayList", name := "add", desc := "(Ljava/lang/Object;)Z" } : Jvm.MethodName)) ∈ lw_all := lw_g (lw_at lw_m3 212 rfl) rfl
theorem q806 : (Jvm.Cond.code ({ cls := "java/util/ArrayList", name := "add", desc := "(Ljava/lang/Object;)Z" } : Jvm.MethodName) prog_38_method_25_code (2 : Nat) (Option.some Jvm.ClassFile.FieldType.boolean)) ∈ lw_all := lw_g (lw_at lw_m3 213 rfl) rfl
theorem q807 : (Jvm.Cond.methodLink "java/util/ArrayList" (131 : Nat) ({ cls := "java/util/ArrayList", name := "add", desc := "(Ljava/lang/Object;[Ljava/lang/Object;I)V" } : Jvm.MethodName)) ∈ lw_all := lw_g (lw_at lw_m3 214 rfl) rfl
theorem q808 : (Jvm.Cond.privateMethod ({ cls := "java/util/ArrayList", name := "add", desc := "(Ljava/lang/Object;[Ljava/lang/Object;I)V" } : Jvm.MethodName)) ∈ lw_tbl := lw_at lw_m3 215 rfl
theorem q809 : (Jvm.Cond.instanceMethod ({ cls := "java/util/ArrayList", name := "add", desc := "(Ljava/lang/Object;[Ljava/lang/Object;I)V" } : Jvm.MethodName)) ∈ lw_all := lw_g (lw_at lw_m3 216 rfl) rfl
theorem q810 : (Jvm.Cond.code ({ cls := "java/util/ArrayList", name := "add", desc := "(Ljava/lang/Object;[Ljava/lang/Object;I)V" } : Jvm.MethodName) prog_38_method_24_code (4 : Nat) (Option.none : Option Jvm.ClassFile.FieldType)) ∈ lw_all := lw_g (lw_at lw_m3 217 rfl) rfl
theorem q811 : (Jvm.Cond.methodLink "java/util/ArrayList" (129 : Nat) ({ cls := "java/util/ArrayList", name := "grow", desc := "()[Ljava/lang/Object;" } : Jvm.MethodName)) ∈ lw_all := lw_g (lw_at lw_m3 218 rfl) rfl
theorem q812 : (Jvm.Cond.privateMethod ({ cls := "java/util/ArrayList", name := "grow", desc := "()[Ljava/lang/Object;" } : Jvm.MethodName)) ∈ lw_tbl := lw_at lw_m3 219 rfl
theorem q813 : (Jvm.Cond.instanceMethod ({ cls := "java/util/ArrayList", name := "grow", desc := "()[Ljava/lang/Object;" } : Jvm.MethodName)) ∈ lw_all := lw_g (lw_at lw_m3 220 rfl) rfl
theorem q814 : (Jvm.Cond.code ({ cls := "java/util/ArrayList", name := "grow", desc := "()[Ljava/lang/Object;" } : Jvm.MethodName) prog_38_method_7_code (1 : Nat) (Option.some (Jvm.ClassFile.FieldType.array (Jvm.ClassFile.FieldType.object "java/lang/Object")))) ∈ lw_all := lw_g (lw_at lw_m3 221 rfl) rfl
theorem q815 : (Jvm.Cond.methodLink "java/util/ArrayList" (69 : Nat) ({ cls := "java/util/ArrayList", name := "grow", desc := "(I)[Ljava/lang/Object;" } : Jvm.MethodName)) ∈ lw_all := lw_g (lw_at lw_m3 222 rfl) rfl
theorem q816 : (Jvm.Cond.privateMethod ({ cls := "java/util/ArrayList", name := "grow", desc := "(I)[Ljava/lang/Object;" } : Jvm.MethodName)) ∈ lw_tbl := lw_at lw_m3 223 rfl
theorem q817 : (Jvm.Cond.instanceMethod ({ cls := "java/util/ArrayList", name := "grow", desc := "(I)[Ljava/lang/Object;" } : Jvm.MethodName)) ∈ lw_all := lw_g (lw_at lw_m3 224 rfl) rfl
theorem q818 : (Jvm.Cond.code ({ cls := "java/util/ArrayList", name := "grow", desc := "(I)[Ljava/lang/Object;" } : Jvm.MethodName) prog_38_method_6_code (4 : Nat) (Option.some (Jvm.ClassFile.FieldType.array (Jvm.ClassFile.FieldType.object "java/lang/Object")))) ∈ lw_all := lw_g (lw_at lw_m3 225 rfl) rfl
theorem q819 : (Jvm.Cond.methodLink "java/util/ArrayList" (73 : Nat) ({ cls := "jdk/internal/util/ArraysSupport", name := "newLength", desc := "(III)I" } : Jvm.MethodName)) ∈ lw_all := lw_g (lw_at lw_m3 226 rfl) rfl
theorem q829 : (Jvm.Cond.methodLink "java/util/ArrayList" (66 : Nat) ({ cls := "java/util/Arrays", name := "copyOf", desc := "([Ljava/lang/Object;I)[Ljava/lang/Object;" } : Jvm.MethodName)) ∈ lw_all := lw_g (lw_at lw_m3 236 rfl) rfl
theorem q851 : (Jvm.Cond.selects "java/util/ArrayList" ({ cls := "java/lang/Object", name := "getClass", desc := "()Ljava/lang/Class;" } : Jvm.MethodName) ({ cls := "java/lang/Object", name := "getClass", desc := "()Ljava/lang/Class;" } : Jvm.MethodName)) ∈ lw_all := lw_g (lw_at lw_m4 18 rfl) rfl
theorem q866 : (Jvm.Cond.methodLink "java/util/ArrayList" (79 : Nat) ({ cls := "java/lang/Math", name := "max", desc := "(II)I" } : Jvm.MethodName)) ∈ lw_all := lw_g (lw_at lw_m4 33 rfl) rfl
theorem q867 : (Jvm.Cond.classLink "java/util/ArrayList" (7 : Nat) "java/lang/Object") ∈ lw_all := lw_g (lw_at lw_m4 34 rfl) rfl
theorem q1075 : (Jvm.Cond.instanceMethod ({ cls := "java/util/ArrayList", name := "remove", desc := "(I)Ljava/lang/Object;" } : Jvm.MethodName)) ∈ lw_all := lw_g (lw_at lw_m5 2 rfl) rfl
theorem q1076 : (Jvm.Cond.selects "java/util/ArrayList" ({ cls := "java/util/ArrayList", name := "remove", desc := "(I)Ljava/lang/Object;" } : Jvm.MethodName) ({ cls := "java/util/ArrayList", name := "remove", desc := "(I)Ljava/lang/Object;" } : Jvm.MethodName)) ∈ lw_all := lw_g (lw_at lw_m5 3 rfl) rfl
theorem q1077 : (Jvm.Cond.code ({ cls := "java/util/ArrayList", name := "remove", desc := "(I)Ljava/lang/Object;" } : Jvm.MethodName) prog_38_method_29_code (4 : Nat) (Option.some (Jvm.ClassFile.FieldType.object "java/lang/Object"))) ∈ lw_all := lw_g (lw_at lw_m5 4 rfl) rfl
theorem q1078 : (Jvm.Cond.methodLink "java/util/ArrayList" (144 : Nat) ({ cls := "java/util/ArrayList", name := "fastRemove", desc := "([Ljava/lang/Object;I)V" } : Jvm.MethodName)) ∈ lw_all := lw_g (lw_at lw_m5 5 rfl) rfl
theorem q1079 : (Jvm.Cond.privateMethod ({ cls := "java/util/ArrayList", name := "fastRemove", desc := "([Ljava/lang/Object;I)V" } : Jvm.MethodName)) ∈ lw_tbl := lw_at lw_m5 6 rfl
theorem q1080 : (Jvm.Cond.instanceMethod ({ cls := "java/util/ArrayList", name := "fastRemove", desc := "([Ljava/lang/Object;I)V" } : Jvm.MethodName)) ∈ lw_all := lw_g (lw_at lw_m5 7 rfl) rfl
theorem q1081 : (Jvm.Cond.code ({ cls := "java/util/ArrayList", name := "fastRemove", desc := "([Ljava/lang/Object;I)V" } : Jvm.MethodName) prog_38_method_39_code (4 : Nat) (Option.none : Option Jvm.ClassFile.FieldType)) ∈ lw_all := lw_g (lw_at lw_m5 8 rfl) rfl
theorem q1082 : (Jvm.Cond.methodLink "java/util/ArrayList" (112 : Nat) ({ cls := "java/lang/System", name := "arraycopy", desc := "(Ljava/lang/Object;ILjava/lang/Object;II)V" } : Jvm.MethodName)) ∈ lw_all := lw_g (lw_at lw_m5 9 rfl) rfl
theorem q1143 : (Jvm.Cond.instanceMethod ({ cls := "java/util/ArrayList", name := "isEmpty", desc := "()Z" } : Jvm.MethodName)) ∈ lw_all := lw_g (lw_at lw_m5 70 rfl) rfl
theorem q1144 : (Jvm.Cond.selects "java/util/ArrayList" ({ cls := "java/util/ArrayList", name := "isEmpty", desc := "()Z" } : Jvm.MethodName) ({ cls := "java/util/ArrayList", name := "isEmpty", desc := "()Z" } : Jvm.MethodName)) ∈ lw_all := lw_g (lw_at lw_m5 71 rfl) rfl
theorem q1145 : (Jvm.Cond.code ({ cls := "java/util/ArrayList", name := "isEmpty", desc := "()Z" } : Jvm.MethodName) prog_38_method_9_code (1 : Nat) (Option.some Jvm.ClassFile.FieldType.boolean)) ∈ lw_all := lw_g (lw_at lw_m5 72 rfl) rfl
theorem q2171 : (Jvm.Cond.castable "java/util/ArrayList" "java/lang/Object") ∈ lw_tbl := lw_at lw_m9 138 rfl
theorem q120 : (Jvm.Cond.initialized "java/lang/Throwable") ∈ lw_all := lw_g (lw_at lw_m1 7 rfl) rfl
theorem q309 : (Jvm.Cond.declares ({ cls := "java/lang/Throwable", name := "<init>", desc := "()V" } : Jvm.MethodName)) ∈ lw_tbl := lw_at lw_m1 196 rfl
theorem q310 : (Jvm.Cond.declares ({ cls := "java/lang/Throwable", name := "<init>", desc := "(Ljava/lang/String;)V" } : Jvm.MethodName)) ∈ lw_tbl := lw_at lw_m1 197 rfl
theorem q314 : (Jvm.Cond.lays "java/lang/Throwable" "java/lang/Throwable" "cause" "Ljava/lang/Throwable;") ∈ lw_all := lw_g (lw_at lw_m1 201 rfl) rfl
theorem q316 : (Jvm.Cond.lays "java/lang/Throwable" "java/lang/Throwable" "stackTrace" "[Ljava/lang/StackTraceElement;") ∈ lw_all := lw_g (lw_at lw_m1 203 rfl) rfl
theorem q318 : (Jvm.Cond.lays "java/lang/Throwable" "java/lang/Throwable" "suppressedExceptions" "Ljava/util/List;") ∈ lw_all := lw_g (lw_at lw_m1 205 rfl) rfl
theorem q320 : (Jvm.Cond.lays "java/lang/Throwable" "java/lang/Throwable" "detailMessage" "Ljava/lang/String;") ∈ lw_all := lw_g (lw_at lw_m1 207 rfl) rfl
theorem q322 : (Jvm.Cond.lays "java/lang/Throwable" "java/lang/Throwable" "backtrace" "Ljava/lang/Object;") ∈ lw_all := lw_g (lw_at lw_m1 209 rfl) rfl
theorem q323 : (Jvm.Cond.fieldLink "java/lang/Throwable" (198 : Nat) "java/lang/Throwable" "backtrace" "Ljava/lang/Object;") ∈ lw_all := lw_g (lw_at lw_m1 210 rfl) rfl
theorem q324 : (Jvm.Cond.superclass "java/lang/Throwable" "java/lang/Object") ∈ lw_all := lw_g (lw_at lw_m1 211 rfl) rfl
theorem q325 : (Jvm.Cond.instanceMethod ({ cls := "java/lang/Throwable", name := "<init>", desc := "()V" } : Jvm.MethodName)) ∈ lw_all := lw_g (lw_at lw_m1 212 rfl) rfl
theorem q326 : (Jvm.Cond.code ({ cls := "java/lang/Throwable", name := "<init>", desc := "()V" } : Jvm.MethodName) prog_33_method_1_code (1 : Nat) (Option.none : Option Jvm.ClassFile.FieldType)) ∈ lw_all := lw_g (lw_at lw_m1 213 rfl) rfl
theorem q327 : (Jvm.Cond.methodLink "java/lang/Throwable" (1 : Nat) ({ cls := "java/lang/Object", name := "<init>", desc := "()V" } : Jvm.MethodName)) ∈ lw_all := lw_g (lw_at lw_m1 214 rfl) rfl
theorem q328 : (Jvm.Cond.fieldLink "java/lang/Throwable" (13 : Nat) "java/lang/Throwable" "UNASSIGNED_STACK" "[Ljava/lang/StackTraceElement;") ∈ lw_all := lw_g (lw_at lw_m1 215 rfl) rfl
theorem q329 : (Jvm.Cond.laysStatic "java/lang/Throwable" "UNASSIGNED_STACK" "[Ljava/lang/StackTraceElement;") ∈ lw_tbl := lw_at lw_m1 216 rfl
theorem q330 : (Jvm.Cond.fieldLink "java/lang/Throwable" (20 : Nat) "java/lang/Throwable" "SUPPRESSED_SENTINEL" "Ljava/util/List;") ∈ lw_all := lw_g (lw_at lw_m1 217 rfl) rfl
theorem q331 : (Jvm.Cond.laysStatic "java/lang/Throwable" "SUPPRESSED_SENTINEL" "Ljava/util/List;") ∈ lw_tbl := lw_at lw_m1 218 rfl
theorem q332 : (Jvm.Cond.methodLink "java/lang/Throwable" (27 : Nat) ({ cls := "java/lang/Throwable", name := "fillInStackTrace", desc := "()Ljava/lang/Throwable;" } : Jvm.MethodName)) ∈ lw_all := lw_g (lw_at lw_m1 219 rfl) rfl
theorem q333 : (Jvm.Cond.instanceMethod ({ cls := "java/lang/Throwable", name := "fillInStackTrace", desc := "()Ljava/lang/Throwable;" } : Jvm.MethodName)) ∈ lw_all := lw_g (lw_at lw_m1 220 rfl) rfl
theorem q334 : (Jvm.Cond.sameMethod "java/lang/Throwable" "java/lang/Throwable" "fillInStackTrace" "()Ljava/lang/Throwable;") ∈ lw_all := lw_g (lw_at lw_m1 221 rfl) rfl
theorem q335 : (Jvm.Cond.codeSync ({ cls := "java/lang/Throwable", name := "fillInStackTrace", desc := "()Ljava/lang/Throwable;" } : Jvm.MethodName) prog_33_method_18_code (1 : Nat) (Option.some (Jvm.ClassFile.FieldType.object "java/lang/Throwable"))) ∈ lw_all := lw_g (lw_at lw_m1 222 rfl) rfl
theorem q336 : (Jvm.Cond.methodLink "java/lang/Throwable" (202 : Nat) ({ cls := "java/lang/Throwable", name := "fillInStackTrace", desc := "(I)Ljava/lang/Throwable;" } : Jvm.MethodName)) ∈ lw_all := lw_g (lw_at lw_m1 223 rfl) rfl
theorem q337 : (Jvm.Cond.privateMethod ({ cls := "java/lang/Throwable", name := "fillInStackTrace", desc := "(I)Ljava/lang/Throwable;" } : Jvm.MethodName)) ∈ lw_tbl := lw_at lw_m1 224 rfl
theorem q338 : (Jvm.Cond.instanceMethod ({ cls := "java/lang/Throwable", name := "fillInStackTrace", desc := "(I)Ljava/lang/Throwable;" } : Jvm.MethodName)) ∈ lw_all := lw_g (lw_at lw_m1 225 rfl) rfl
theorem q339 : (Jvm.Cond.instantiable "java/lang/Throwable" (6 : Nat)) ∈ lw_all := lw_g (lw_at lw_m1 226 rfl) rfl
theorem q340 : (Jvm.Cond.native ({ cls := "java/lang/Throwable", name := "fillInStackTrace", desc := "(I)Ljava/lang/Throwable;" } : Jvm.MethodName)) ∈ lw_all := lw_g (lw_at lw_m1 227 rfl) rfl
theorem q352 : (Jvm.Cond.fieldLink "java/lang/Throwable" (198 : Nat) "java/lang/Throwable" "backtrace" "Ljava/lang/Object;") ∈ lw_all := lw_g (lw_at lw_m1 239 rfl) rfl
theorem q353 : (Jvm.Cond.fieldLink "java/lang/Throwable" (7 : Nat) "java/lang/Throwable" "cause" "Ljava/lang/Throwable;") ∈ lw_all := lw_g (lw_at lw_m2 0 rfl) rfl
theorem q354 : (Jvm.Cond.fieldLink "java/lang/Throwable" (17 : Nat) "java/lang/Throwable" "stackTrace" "[Ljava/lang/StackTraceElement;") ∈ lw_all := lw_g (lw_at lw_m2 1 rfl) rfl
theorem q355 : (Jvm.Cond.fieldLink "java/lang/Throwable" (24 : Nat) "java/lang/Throwable" "suppressedExceptions" "Ljava/util/List;") ∈ lw_all := lw_g (lw_at lw_m2 2 rfl) rfl
theorem q360 : (Jvm.Cond.soleField "java/lang/Throwable" "backtrace") ∈ lw_all := lw_g (lw_at lw_m2 7 rfl) rfl
theorem q361 : (Jvm.Cond.soleField "java/lang/Throwable" "detailMessage") ∈ lw_all := lw_g (lw_at lw_m2 8 rfl) rfl
theorem q362 : (Jvm.Cond.soleField "java/lang/Throwable" "cause") ∈ lw_all := lw_g (lw_at lw_m2 9 rfl) rfl
theorem q363 : (Jvm.Cond.soleField "java/lang/Throwable" "stackTrace") ∈ lw_all := lw_g (lw_at lw_m2 10 rfl) rfl
theorem q365 : (Jvm.Cond.soleField "java/lang/Throwable" "depth") ∈ lw_all := lw_g (lw_at lw_m2 12 rfl) rfl
theorem q366 : (Jvm.Cond.soleField "java/lang/Throwable" "suppressedExceptions") ∈ lw_all := lw_g (lw_at lw_m2 13 rfl) rfl
theorem q2162 : (Jvm.Cond.sameMethod "java/lang/Throwable" "java/lang/Throwable" "fillInStackTrace" "(I)Ljava/lang/Throwable;") ∈ lw_all := lw_g (lw_at lw_m9 129 rfl) rfl
theorem q2186 : (Jvm.Cond.castable "java/lang/Throwable" "java/lang/Object") ∈ lw_tbl := lw_at lw_m9 153 rfl
theorem q121 : (Jvm.Cond.initialized "java/lang/Exception") ∈ lw_all := lw_g (lw_at lw_m1 8 rfl) rfl
theorem q307 : (Jvm.Cond.declares ({ cls := "java/lang/Exception", name := "<init>", desc := "()V" } : Jvm.MethodName)) ∈ lw_tbl := lw_at lw_m1 194 rfl
theorem q308 : (Jvm.Cond.declares ({ cls := "java/lang/Exception", name := "<init>", desc := "(Ljava/lang/String;)V" } : Jvm.MethodName)) ∈ lw_tbl := lw_at lw_m1 195 rfl
theorem q345 : (Jvm.Cond.instanceMethod ({ cls := "java/lang/Exception", name := "<init>", desc := "()V" } : Jvm.MethodName)) ∈ lw_all := lw_g (lw_at lw_m1 232 rfl) rfl
theorem q346 : (Jvm.Cond.code ({ cls := "java/lang/Exception", name := "<init>", desc := "()V" } : Jvm.MethodName) prog_25_method_1_code (1 : Nat) (Option.none : Option Jvm.ClassFile.FieldType)) ∈ lw_all := lw_g (lw_at lw_m1 233 rfl) rfl
theorem q347 : (Jvm.Cond.methodLink "java/lang/Exception" (1 : Nat) ({ cls := "java/lang/Throwable", name := "<init>", desc := "()V" } : Jvm.MethodName)) ∈ lw_all := lw_g (lw_at lw_m1 234 rfl) rfl
theorem q127 : (Jvm.Cond.initialized "java/util/Objects") ∈ lw_all := lw_g (lw_at lw_m1 14 rfl) rfl
theorem q436 : (Jvm.Cond.static ({ cls := "java/util/Objects", name := "checkIndex", desc := "(II)I" } : Jvm.MethodName)) ∈ lw_all := lw_g (lw_at lw_m2 83 rfl) rfl
theorem q437 : (Jvm.Cond.code ({ cls := "java/util/Objects", name := "checkIndex", desc := "(II)I" } : Jvm.MethodName) prog_44_method_17_code (2 : Nat) (Option.some Jvm.ClassFile.FieldType.int)) ∈ lw_all := lw_g (lw_at lw_m2 84 rfl) rfl
theorem q438 : (Jvm.Cond.methodLink "java/util/Objects" (105 : Nat) ({ cls := "jdk/internal/util/Preconditions", name := "checkIndex", desc := "(IILjava/util/function/BiFunction;)I" } : Jvm.MethodName)) ∈ lw_all := lw_g (lw_at lw_m2 85 rfl) rfl
theorem q128 : (Jvm.Cond.initialized "jdk/internal/util/Preconditions") ∈ lw_all := lw_g (lw_at lw_m1 15 rfl) rfl
theorem q439 : (Jvm.Cond.static ({ cls := "jdk/internal/util/Preconditions", name := "checkIndex", desc := "(IILjava/util/function/BiFunction;)I" } : Jvm.MethodName)) ∈ lw_all := lw_g (lw_at lw_m2 86 rfl) rfl
theorem q440 : (Jvm.Cond.code ({ cls := "jdk/internal/util/Preconditions", name := "checkIndex", desc := "(IILjava/util/function/BiFunction;)I" } : Jvm.MethodName) prog_48_method_11_code (3 : Nat) (Option.some Jvm.ClassFile.FieldType.int)) ∈ lw_all := lw_g (lw_at lw_m2 87 rfl) rfl
theorem q644 : (Jvm.Cond.laysStatic "jdk/internal/util/Preconditions" "SIOOBE_FORMATTER" "Ljava/util/function/BiFunction;") ∈ lw_tbl := lw_at lw_m3 51 rfl
theorem q131 : (Jvm.Cond.initialized "java/lang/String") ∈ lw_all := lw_g (lw_at lw_m1 18 rfl) rfl
theorem q620 : (Jvm.Cond.instanceMethod ({ cls := "java/lang/String", name := "length", desc := "()I" } : Jvm.MethodName)) ∈ lw_all := lw_g (lw_at lw_m3 27 rfl) rfl
theorem q621 : (Jvm.Cond.selects "java/lang/String" ({ cls := "java/lang/String", name := "length", desc := "()I" } : Jvm.MethodName) ({ cls := "java/lang/String", name := "length", desc := "()I" } : Jvm.MethodName)) ∈ lw_all := lw_g (lw_at lw_m3 28 rfl) rfl
theorem q622 : (Jvm.Cond.code ({ cls := "java/lang/String", name := "length", desc := "()I" } : Jvm.MethodName) prog_29_method_54_code (1 : Nat) (Option.some Jvm.ClassFile.FieldType.int)) ∈ lw_all := lw_g (lw_at lw_m3 29 rfl) rfl
theorem q623 : (Jvm.Cond.methodLink "java/lang/String" (335 : Nat) ({ cls := "java/lang/String", name := "coder", desc := "()B" } : Jvm.MethodName)) ∈ lw_all := lw_g (lw_at lw_m3 30 rfl) rfl
theorem q624 : (Jvm.Cond.instanceMethod ({ cls := "java/lang/String", name := "coder", desc := "()B" } : Jvm.MethodName)) ∈ lw_all := lw_g (lw_at lw_m3 31 rfl) rfl
theorem q625 : (Jvm.Cond.selects "java/lang/String" ({ cls := "java/lang/String", name := "coder", desc := "()B" } : Jvm.MethodName) ({ cls := "java/lang/String", name := "coder", desc := "()B" } : Jvm.MethodName)) ∈ lw_all := lw_g (lw_at lw_m3 32 rfl) rfl
theorem q626 : (Jvm.Cond.code ({ cls := "java/lang/String", name := "coder", desc := "()B" } : Jvm.MethodName) prog_29_method_152_code (1 : Nat) (Option.some Jvm.ClassFile.FieldType.byte)) ∈ lw_all := lw_g (lw_at lw_m3 33 rfl) rfl
theorem q627 : (Jvm.Cond.fieldLink "java/lang/String" (38 : Nat) "java/lang/String" "COMPACT_STRINGS" "Z") ∈ lw_all := lw_g (lw_at lw_m3 34 rfl) rfl
theorem q628 : (Jvm.Cond.laysStatic "java/lang/String" "COMPACT_STRINGS" "Z") ∈ lw_tbl := lw_at lw_m3 35 rfl
theorem q630 : (Jvm.Cond.instanceMethod ({ cls := "java/lang/String", name := "charAt", desc := "(I)C" } : Jvm.MethodName)) ∈ lw_all := lw_g (lw_at lw_m3 37 rfl) rfl
theorem q631 : (Jvm.Cond.selects "java/lang/String" ({ cls := "java/lang/String", name := "charAt", desc := "(I)C" } : Jvm.MethodName) ({ cls := "java/lang/String", name := "charAt", desc := "(I)C" } : Jvm.MethodName)) ∈ lw_all := lw_g (lw_at lw_m3 38 rfl) rfl
theorem q632 : (Jvm.Cond.code ({ cls := "java/lang/String", name := "charAt", desc := "(I)C" } : Jvm.MethodName) prog_29_method_56_code (2 : Nat) (Option.some Jvm.ClassFile.FieldType.char)) ∈ lw_all := lw_g (lw_at lw_m3 39 rfl) rfl
theorem q633 : (Jvm.Cond.methodLink "java/lang/String" (492 : Nat) ({ cls := "java/lang/String", name := "isLatin1", desc := "()Z" } : Jvm.MethodName)) ∈ lw_all := lw_g (lw_at lw_m3 40 rfl) rfl
theorem q634 : (Jvm.Cond.instanceMethod ({ cls := "java/lang/String", name := "isLatin1", desc := "()Z" } : Jvm.MethodName)) ∈ lw_all := lw_g (lw_at lw_m3 41 rfl) rfl
theorem q635 : (Jvm.Cond.selects "java/lang/String" ({ cls := "java/lang/String", name := "isLatin1", desc := "()Z" } : Jvm.MethodName) ({ cls := "java/lang/String", name := "isLatin1", desc := "()Z" } : Jvm.MethodName)) ∈ lw_all := lw_g (lw_at lw_m3 42 rfl) rfl
theorem q636 : (Jvm.Cond.code ({ cls := "java/lang/String", name := "isLatin1", desc := "()Z" } : Jvm.MethodName) prog_29_method_154_code (1 : Nat) (Option.some Jvm.ClassFile.FieldType.boolean)) ∈ lw_all := lw_g (lw_at lw_m3 43 rfl) rfl
theorem q637 : (Jvm.Cond.methodLink "java/lang/String" (495 : Nat) ({ cls := "java/lang/StringLatin1", name := "charAt", desc := "([BI)C" } : Jvm.MethodName)) ∈ lw_all := lw_g (lw_at lw_m3 44 rfl) rfl
theorem q641 : (Jvm.Cond.static ({ cls := "java/lang/String", name := "checkIndex", desc := "(II)V" } : Jvm.MethodName)) ∈ lw_all := lw_g (lw_at lw_m3 48 rfl) rfl
theorem q642 : (Jvm.Cond.code ({ cls := "java/lang/String", name := "checkIndex", desc := "(II)V" } : Jvm.MethodName) prog_29_method_155_code (2 : Nat) (Option.none : Option Jvm.ClassFile.FieldType)) ∈ lw_all := lw_g (lw_at lw_m3 49 rfl) rfl
theorem q643 : (Jvm.Cond.fieldLink "java/lang/String" (1053 : Nat) "jdk/internal/util/Preconditions" "SIOOBE_FORMATTER" "Ljava/util/function/BiFunction;") ∈ lw_all := lw_g (lw_at lw_m3 50 rfl) rfl
theorem q645 : (Jvm.Cond.methodLink "java/lang/String" (1059 : Nat) ({ cls := "jdk/internal/util/Preconditions", name := "checkIndex", desc := "(IILjava/util/function/BiFunction;)I" } : Jvm.MethodName)) ∈ lw_all := lw_g (lw_at lw_m3 52 rfl) rfl
theorem q646 : (Jvm.Cond.methodLink "java/lang/String" (498 : Nat) ({ cls := "java/lang/StringUTF16", name := "charAt", desc := "([BI)C" } : Jvm.MethodName)) ∈ lw_all := lw_g (lw_at lw_m3 53 rfl) rfl
theorem q2168 : (Jvm.Cond.castable "java/lang/String" "java/lang/Object") ∈ lw_tbl := lw_at lw_m9 135 rfl
theorem q2197 : (Jvm.Cond.fieldLink "java/lang/String" (9 : Nat) "java/lang/String" "value" "[B") ∈ lw_all := lw_g (lw_at lw_m9 164 rfl) rfl
theorem q2198 : (Jvm.Cond.fieldLink "java/lang/String" (15 : Nat) "java/lang/String" "coder" "B") ∈ lw_all := lw_g (lw_at lw_m9 165 rfl) rfl
theorem q132 : (Jvm.Cond.initialized "java/lang/StringLatin1") ∈ lw_all := lw_g (lw_at lw_m1 19 rfl) rfl
theorem q638 : (Jvm.Cond.static ({ cls := "java/lang/StringLatin1", name := "charAt", desc := "([BI)C" } : Jvm.MethodName)) ∈ lw_all := lw_g (lw_at lw_m3 45 rfl) rfl
theorem q639 : (Jvm.Cond.code ({ cls := "java/lang/StringLatin1", name := "charAt", desc := "([BI)C" } : Jvm.MethodName) prog_30_method_2_code (2 : Nat) (Option.some Jvm.ClassFile.FieldType.char)) ∈ lw_all := lw_g (lw_at lw_m3 46 rfl) rfl
theorem q640 : (Jvm.Cond.methodLink "java/lang/StringLatin1" (9 : Nat) ({ cls := "java/lang/String", name := "checkIndex", desc := "(II)V" } : Jvm.MethodName)) ∈ lw_all := lw_g (lw_at lw_m3 47 rfl) rfl
theorem q133 : (Jvm.Cond.initialized "java/lang/StringUTF16") ∈ lw_all := lw_g (lw_at lw_m1 20 rfl) rfl
theorem q647 : (Jvm.Cond.static ({ cls := "java/lang/StringUTF16", name := "charAt", desc := "([BI)C" } : Jvm.MethodName)) ∈ lw_all := lw_g (lw_at lw_m3 54 rfl) rfl
theorem q648 : (Jvm.Cond.code ({ cls := "java/lang/StringUTF16", name := "charAt", desc := "([BI)C" } : Jvm.MethodName) prog_31_method_83_code (2 : Nat) (Option.some Jvm.ClassFile.FieldType.char)) ∈ lw_all := lw_g (lw_at lw_m3 55 rfl) rfl
theorem q649 : (Jvm.Cond.methodLink "java/lang/StringUTF16" (67 : Nat) ({ cls := "java/lang/StringUTF16", name := "checkIndex", desc := "(I[B)V" } : Jvm.MethodName)) ∈ lw_all := lw_g (lw_at lw_m3 56 rfl) rfl
theorem q650 : (Jvm.Cond.static ({ cls := "java/lang/StringUTF16", name := "checkIndex", desc := "(I[B)V" } : Jvm.MethodName)) ∈ lw_all := lw_g (lw_at lw_m3 57 rfl) rfl
theorem q651 : (Jvm.Cond.code ({ cls := "java/lang/StringUTF16", name := "checkIndex", desc := "(I[B)V" } : Jvm.MethodName) prog_31_method_91_code (2 : Nat) (Option.none : Option Jvm.ClassFile.FieldType)) ∈ lw_all := lw_g (lw_at lw_m3 58 rfl) rfl
theorem q652 : (Jvm.Cond.methodLink "java/lang/StringUTF16" (48 : Nat) ({ cls := "java/lang/StringUTF16", name := "length", desc := "([B)I" } : Jvm.MethodName)) ∈ lw_all := lw_g (lw_at lw_m3 59 rfl) rfl
theorem q653 : (Jvm.Cond.static ({ cls := "java/lang/StringUTF16", name := "length", desc := "([B)I" } : Jvm.MethodName)) ∈ lw_all := lw_g (lw_at lw_m3 60 rfl) rfl
theorem q654 : (Jvm.Cond.code ({ cls := "java/lang/StringUTF16", name := "length", desc := "([B)I" } : Jvm.MethodName) prog_31_method_6_code (1 : Nat) (Option.some Jvm.ClassFile.FieldType.int)) ∈ lw_all := lw_g (lw_at lw_m3 61 rfl) rfl
theorem q655 : (Jvm.Cond.methodLink "java/lang/StringUTF16" (414 : Nat) ({ cls := "java/lang/String", name := "checkIndex", desc := "(II)V" } : Jvm.MethodName)) ∈ lw_all := lw_g (lw_at lw_m3 62 rfl) rfl
theorem q656 : (Jvm.Cond.methodLink "java/lang/StringUTF16" (71 : Nat) ({ cls := "java/lang/StringUTF16", name := "getChar", desc := "([BI)C" } : Jvm.MethodName)) ∈ lw_all := lw_g (lw_at lw_m3 63 rfl) rfl
theorem q657 : (Jvm.Cond.static ({ cls := "java/lang/StringUTF16", name := "getChar", desc := "([BI)C" } : Jvm.MethodName)) ∈ lw_all := lw_g (lw_at lw_m3 64 rfl) rfl
theorem q658 : (Jvm.Cond.code ({ cls := "java/lang/StringUTF16", name := "getChar", desc := "([BI)C" } : Jvm.MethodName) prog_31_method_5_code (2 : Nat) (Option.some Jvm.ClassFile.FieldType.char)) ∈ lw_all := lw_g (lw_at lw_m3 65 rfl) rfl
theorem q659 : (Jvm.Cond.fieldLink "java/lang/StringUTF16" (44 : Nat) "java/lang/StringUTF16" "$assertionsDisabled" "Z") ∈ lw_all := lw_g (lw_at lw_m3 66 rfl) rfl
theorem q660 : (Jvm.Cond.laysStatic "java/lang/StringUTF16" "$assertionsDisabled" "Z") ∈ lw_tbl := lw_at lw_m3 67 rfl
theorem q661 : (Jvm.Cond.fieldLink "java/lang/StringUTF16" (59 : Nat) "java/lang/StringUTF16" "HI_BYTE_SHIFT" "I") ∈ lw_all := lw_g (lw_at lw_m3 68 rfl) rfl
theorem q662 : (Jvm.Cond.laysStatic "java/lang/StringUTF16" "HI_BYTE_SHIFT" "I") ∈ lw_tbl := lw_at lw_m3 69 rfl
theorem q663 : (Jvm.Cond.fieldLink "java/lang/StringUTF16" (63 : Nat) "java/lang/StringUTF16" "LO_BYTE_SHIFT" "I") ∈ lw_all := lw_g (lw_at lw_m3 70 rfl) rfl
theorem q664 : (Jvm.Cond.laysStatic "java/lang/StringUTF16" "LO_BYTE_SHIFT" "I") ∈ lw_tbl := lw_at lw_m3 71 rfl
theorem q136 : (Jvm.Cond.initialized "java/util/ArrayList$Itr") ∈ lw_all := lw_g (lw_at lw_m1 23 rfl) rfl
theorem q178 : (Jvm.Cond.fieldLink "java/util/ArrayList$Itr" (37 : Nat) "java/util/ArrayList" "elementData" "[Ljava/lang/Object;") ∈ lw_all := lw_g (lw_at lw_m1 65 rfl) rfl
theorem q179 : (Jvm.Cond.fieldLinkNest "java/util/ArrayList$Itr" (28 : Nat) "java/util/ArrayList" "size" "I" "java/util/ArrayList") ∈ lw_tbl := lw_at lw_m1 66 rfl
theorem q182 : (Jvm.Cond.fieldLink "java/util/ArrayList$Itr" (17 : Nat) "java/util/ArrayList" "modCount" "I") ∈ lw_all := lw_g (lw_at lw_m1 69 rfl) rfl
theorem q706 : (Jvm.Cond.instantiable "java/util/ArrayList$Itr" (4 : Nat)) ∈ lw_all := lw_g (lw_at lw_m3 113 rfl) rfl
theorem q708 : (Jvm.Cond.instanceMethod ({ cls := "java/util/ArrayList$Itr", name := "<init>", desc := "(Ljava/util/ArrayList;)V" } : Jvm.MethodName)) ∈ lw_all := lw_g (lw_at lw_m3 115 rfl) rfl
theorem q709 : (Jvm.Cond.code ({ cls := "java/util/ArrayList$Itr", name := "<init>", desc := "(Ljava/util/ArrayList;)V" } : Jvm.MethodName) prog_39_method_1_code (2 : Nat) (Option.none : Option Jvm.ClassFile.FieldType)) ∈ lw_all := lw_g (lw_at lw_m3 116 rfl) rfl
theorem q710 : (Jvm.Cond.methodLink "java/util/ArrayList$Itr" (7 : Nat) ({ cls := "java/lang/Object", name := "<init>", desc := "()V" } : Jvm.MethodName)) ∈ lw_all := lw_g (lw_at lw_m3 117 rfl) rfl
theorem q711 : (Jvm.Cond.fieldLink "java/util/ArrayList$Itr" (25 : Nat) "java/util/ArrayList$Itr" "cursor" "I") ∈ lw_all := lw_g (lw_at lw_m3 118 rfl) rfl
theorem q712 : (Jvm.Cond.fieldLink "java/util/ArrayList$Itr" (13 : Nat) "java/util/ArrayList$Itr" "lastRet" "I") ∈ lw_all := lw_g (lw_at lw_m3 119 rfl) rfl
theorem q713 : (Jvm.Cond.fieldLink "java/util/ArrayList$Itr" (22 : Nat) "java/util/ArrayList$Itr" "expectedModCount" "I") ∈ lw_all := lw_g (lw_at lw_m3 120 rfl) rfl
theorem q714 : (Jvm.Cond.fieldLink "java/util/ArrayList$Itr" (1 : Nat) "java/util/ArrayList$Itr" "this$0" "Ljava/util/ArrayList;") ∈ lw_all := lw_g (lw_at lw_m3 121 rfl) rfl
theorem q715 : (Jvm.Cond.lays "java/util/ArrayList$Itr" "java/util/ArrayList$Itr" "cursor" "I") ∈ lw_all := lw_g (lw_at lw_m3 122 rfl) rfl
theorem q716 : (Jvm.Cond.soleField "java/util/ArrayList$Itr" "cursor") ∈ lw_all := lw_g (lw_at lw_m3 123 rfl) rfl
theorem q717 : (Jvm.Cond.lays "java/util/ArrayList$Itr" "java/util/ArrayList$Itr" "lastRet" "I") ∈ lw_all := lw_g (lw_at lw_m3 124 rfl) rfl
theorem q718 : (Jvm.Cond.soleField "java/util/ArrayList$Itr" "lastRet") ∈ lw_all := lw_g (lw_at lw_m3 125 rfl) rfl
theorem q719 : (Jvm.Cond.lays "java/util/ArrayList$Itr" "java/util/ArrayList$Itr" "expectedModCount" "I") ∈ lw_all := lw_g (lw_at lw_m3 126 rfl) rfl
theorem q720 : (Jvm.Cond.soleField "java/util/ArrayList$Itr" "expectedModCount") ∈ lw_all := lw_g (lw_at lw_m3 127 rfl) rfl
theorem q721 : (Jvm.Cond.laysFinal "java/util/ArrayList$Itr" "java/util/ArrayList$Itr" "this$0" "Ljava/util/ArrayList;") ∈ lw_all := lw_g (lw_at lw_m3 128 rfl) rfl
theorem q722 : (Jvm.Cond.soleField "java/util/ArrayList$Itr" "this$0") ∈ lw_all := lw_g (lw_at lw_m3 129 rfl) rfl
theorem q723 : (Jvm.Cond.superclass "java/util/ArrayList$Itr" "java/lang/Object") ∈ lw_all := lw_g (lw_at lw_m3 130 rfl) rfl
theorem q728 : (Jvm.Cond.castable "java/util/ArrayList$Itr" "java/util/Iterator") ∈ lw_tbl := lw_at lw_m3 135 rfl
theorem q729 : (Jvm.Cond.selects "java/util/ArrayList$Itr" ({ cls := "java/util/Iterator", name := "hasNext", desc := "()Z" } : Jvm.MethodName) ({ cls := "java/util/ArrayList$Itr", name := "hasNext", desc := "()Z" } : Jvm.MethodName)) ∈ lw_all := lw_g (lw_at lw_m3 136 rfl) rfl
theorem q730 : (Jvm.Cond.unhidden "java/util/ArrayList$Itr" "hasNext" "()Z") ∈ lw_tbl := lw_at lw_m3 137 rfl
theorem q731 : (Jvm.Cond.instanceMethod ({ cls := "java/util/ArrayList$Itr", name := "hasNext", desc := "()Z" } : Jvm.MethodName)) ∈ lw_all := lw_g (lw_at lw_m3 138 rfl) rfl
theorem q732 : (Jvm.Cond.publicMethod ({ cls := "java/util/ArrayList$Itr", name := "hasNext", desc := "()Z" } : Jvm.MethodName)) ∈ lw_tbl := lw_at lw_m3 139 rfl
theorem q733 : (Jvm.Cond.code ({ cls := "java/util/ArrayList$Itr", name := "hasNext", desc := "()Z" } : Jvm.MethodName) prog_39_method_2_code (1 : Nat) (Option.some Jvm.ClassFile.FieldType.boolean)) ∈ lw_all := lw_g (lw_at lw_m3 140 rfl) rfl
theorem q738 : (Jvm.Cond.selects "java/util/ArrayList$Itr" ({ cls := "java/util/Iterator", name := "next", desc := "()Ljava/lang/Object;" } : Jvm.MethodName) ({ cls := "java/util/ArrayList$Itr", name := "next", desc := "()Ljava/lang/Object;" } : Jvm.MethodName)) ∈ lw_all := lw_g (lw_at lw_m3 145 rfl) rfl
theorem q739 : (Jvm.Cond.unhidden "java/util/ArrayList$Itr" "next" "()Ljava/lang/Object;") ∈ lw_tbl := lw_at lw_m3 146 rfl
theorem q740 : (Jvm.Cond.instanceMethod ({ cls := "java/util/ArrayList$Itr", name := "next", desc := "()Ljava/lang/Object;" } : Jvm.MethodName)) ∈ lw_all := lw_g (lw_at lw_m3 147 rfl) rfl
theorem q741 : (Jvm.Cond.publicMethod ({ cls := "java/util/ArrayList$Itr", name := "next", desc := "()Ljava/lang/Object;" } : Jvm.MethodName)) ∈ lw_tbl := lw_at lw_m3 148 rfl
theorem q742 : (Jvm.Cond.code ({ cls := "java/util/ArrayList$Itr", name := "next", desc := "()Ljava/lang/Object;" } : Jvm.MethodName) prog_39_method_3_code (3 : Nat) (Option.some (Jvm.ClassFile.FieldType.object "java/lang/Object"))) ∈ lw_all := lw_g (lw_at lw_m3 149 rfl) rfl
theorem q743 : (Jvm.Cond.methodLink "java/util/ArrayList$Itr" (31 : Nat) ({ cls := "java/util/ArrayList$Itr", name := "checkForComodification", desc := "()V" } : Jvm.MethodName)) ∈ lw_all := lw_g (lw_at lw_m3 150 rfl) rfl
theorem q744 : (Jvm.Cond.instanceMethod ({ cls := "java/util/ArrayList$Itr", name := "checkForComodification", desc := "()V" } : Jvm.MethodName)) ∈ lw_all := lw_g (lw_at lw_m3 151 rfl) rfl
theorem q745 : (Jvm.Cond.selects "java/util/ArrayList$Itr" ({ cls := "java/util/ArrayList$Itr", name := "checkForComodification", desc := "()V" } : Jvm.MethodName) ({ cls := "java/util/ArrayList$Itr", name := "checkForComodification", desc := "()V" } : Jvm.MethodName)) ∈ lw_all := lw_g (lw_at lw_m3 152 rfl) rfl
theorem q746 : (Jvm.Cond.code ({ cls := "java/util/ArrayList$Itr", name := "checkForComodification", desc := "()V" } : Jvm.MethodName) prog_39_method_6_code (1 : Nat) (Option.none : Option Jvm.ClassFile.FieldType)) ∈ lw_all := lw_g (lw_at lw_m3 153 rfl) rfl
theorem q852 : (Jvm.Cond.selects "java/util/ArrayList$Itr" ({ cls := "java/lang/Object", name := "getClass", desc := "()Ljava/lang/Class;" } : Jvm.MethodName) ({ cls := "java/lang/Object", name := "getClass", desc := "()Ljava/lang/Class;" } : Jvm.MethodName)) ∈ lw_all := lw_g (lw_at lw_m4 19 rfl) rfl
theorem q2179 : (Jvm.Cond.castable "java/util/ArrayList$Itr" "java/lang/Object") ∈ lw_tbl := lw_at lw_m9 146 rfl
theorem q137 : (Jvm.Cond.initialized "jdk/internal/util/ArraysSupport") ∈ lw_all := lw_g (lw_at lw_m1 24 rfl) rfl
theorem q820 : (Jvm.Cond.static ({ cls := "jdk/internal/util/ArraysSupport", name := "newLength", desc := "(III)I" } : Jvm.MethodName)) ∈ lw_all := lw_g (lw_at lw_m3 227 rfl) rfl
theorem q821 : (Jvm.Cond.code ({ cls := "jdk/internal/util/ArraysSupport", name := "newLength", desc := "(III)I" } : Jvm.MethodName) prog_47_method_27_code (4 : Nat) (Option.some Jvm.ClassFile.FieldType.int)) ∈ lw_all := lw_g (lw_at lw_m3 228 rfl) rfl
theorem q822 : (Jvm.Cond.methodLink "jdk/internal/util/ArraysSupport" (194 : Nat) ({ cls := "java/lang/Math", name := "max", desc := "(II)I" } : Jvm.MethodName)) ∈ lw_all := lw_g (lw_at lw_m3 229 rfl) rfl
theorem q825 : (Jvm.Cond.constant "jdk/internal/util/ArraysSupport" (200 : Nat) (2147483639 : Int32)) ∈ lw_all := lw_g (lw_at lw_m3 232 rfl) rfl
theorem q826 : (Jvm.Cond.methodLink "jdk/internal/util/ArraysSupport" (201 : Nat) ({ cls := "jdk/internal/util/ArraysSupport", name := "hugeLength", desc := "(II)I" } : Jvm.MethodName)) ∈ lw_all := lw_g (lw_at lw_m3 233 rfl) rfl
theorem q827 : (Jvm.Cond.static ({ cls := "jdk/internal/util/ArraysSupport", name := "hugeLength", desc := "(II)I" } : Jvm.MethodName)) ∈ lw_all := lw_g (lw_at lw_m3 234 rfl) rfl
theorem q828 : (Jvm.Cond.code ({ cls := "jdk/internal/util/ArraysSupport", name := "hugeLength", desc := "(II)I" } : Jvm.MethodName) prog_47_method_28_code (3 : Nat) (Option.some Jvm.ClassFile.FieldType.int)) ∈ lw_all := lw_g (lw_at lw_m3 235 rfl) rfl
theorem q138 : (Jvm.Cond.initialized "java/lang/Math") ∈ lw_all := lw_g (lw_at lw_m1 25 rfl) rfl
theorem q823 : (Jvm.Cond.static ({ cls := "java/lang/Math", name := "max", desc := "(II)I" } : Jvm.MethodName)) ∈ lw_all := lw_g (lw_at lw_m3 230 rfl) rfl
theorem q824 : (Jvm.Cond.code ({ cls := "java/lang/Math", name := "max", desc := "(II)I" } : Jvm.MethodName) prog_28_method_65_code (2 : Nat) (Option.some Jvm.ClassFile.FieldType.int)) ∈ lw_all := lw_g (lw_at lw_m3 231 rfl) rfl
theorem q861 : (Jvm.Cond.static ({ cls := "java/lang/Math", name := "min", desc := "(II)I" } : Jvm.MethodName)) ∈ lw_all := lw_g (lw_at lw_m4 28 rfl) rfl
theorem q862 : (Jvm.Cond.code ({ cls := "java/lang/Math", name := "min", desc := "(II)I" } : Jvm.MethodName) prog_28_method_69_code (2 : Nat) (Option.some Jvm.ClassFile.FieldType.int)) ∈ lw_all := lw_g (lw_at lw_m4 29 rfl) rfl
theorem q1260 : (Jvm.Cond.static ({ cls := "java/lang/Math", name := "abs", desc := "(I)I" } : Jvm.MethodName)) ∈ lw_all := lw_g (lw_at lw_m5 187 rfl) rfl
theorem q1261 : (Jvm.Cond.code ({ cls := "java/lang/Math", name := "abs", desc := "(I)I" } : Jvm.MethodName) prog_28_method_59_code (1 : Nat) (Option.some Jvm.ClassFile.FieldType.int)) ∈ lw_all := lw_g (lw_at lw_m5 188 rfl) rfl
theorem q139 : (Jvm.Cond.initialized "java/util/Arrays") ∈ lw_all := lw_g (lw_at lw_m1 26 rfl) rfl
theorem q830 : (Jvm.Cond.static ({ cls := "java/util/Arrays", name := "copyOf", desc := "([Ljava/lang/Object;I)[Ljava/lang/Object;" } : Jvm.MethodName)) ∈ lw_all := lw_g (lw_at lw_m3 237 rfl) rfl
theorem q831 : (Jvm.Cond.code ({ cls := "java/util/Arrays", name := "copyOf", desc := "([Ljava/lang/Object;I)[Ljava/lang/Object;" } : Jvm.MethodName) prog_40_method_119_code (2 : Nat) (Option.some (Jvm.ClassFile.FieldType.array (Jvm.ClassFile.FieldType.object "java/lang/Object")))) ∈ lw_all := lw_g (lw_at lw_m3 238 rfl) rfl
theorem q832 : (Jvm.Cond.methodLink "java/util/Arrays" (86 : Nat) ({ cls := "java/lang/Object", name := "getClass", desc := "()Ljava/lang/Class;" } : Jvm.MethodName)) ∈ lw_all := lw_g (lw_at lw_m3 239 rfl) rfl
theorem q854 : (Jvm.Cond.methodLink "java/util/Arrays" (300 : Nat) ({ cls := "java/util/Arrays", name := "copyOf", desc := "([Ljava/lang/Object;ILjava/lang/Class;)[Ljava/lang/Object;" } : Jvm.MethodName)) ∈ lw_all := lw_g (lw_at lw_m4 21 rfl) rfl
theorem q855 : (Jvm.Cond.static ({ cls := "java/util/Arrays", name := "copyOf", desc := "([Ljava/lang/Object;ILjava/lang/Class;)[Ljava/lang/Object;" } : Jvm.MethodName)) ∈ lw_all := lw_g (lw_at lw_m4 22 rfl) rfl
theorem q856 : (Jvm.Cond.code ({ cls := "java/util/Arrays", name := "copyOf", desc := "([Ljava/lang/Object;ILjava/lang/Class;)[Ljava/lang/Object;" } : Jvm.MethodName) prog_40_method_120_code (4 : Nat) (Option.some (Jvm.ClassFile.FieldType.array (Jvm.ClassFile.FieldType.object "java/lang/Object")))) ∈ lw_all := lw_g (lw_at lw_m4 23 rfl) rfl
theorem q857 : (Jvm.Cond.classLink "java/util/Arrays" (110 : Nat) "[Ljava/lang/Object;") ∈ lw_all := lw_g (lw_at lw_m4 24 rfl) rfl
theorem q859 : (Jvm.Cond.classLink "java/util/Arrays" (2 : Nat) "java/lang/Object") ∈ lw_all := lw_g (lw_at lw_m4 26 rfl) rfl
theorem q860 : (Jvm.Cond.methodLink "java/util/Arrays" (304 : Nat) ({ cls := "java/lang/Math", name := "min", desc := "(II)I" } : Jvm.MethodName)) ∈ lw_all := lw_g (lw_at lw_m4 27 rfl) rfl
theorem q863 : (Jvm.Cond.methodLink "java/util/Arrays" (150 : Nat) ({ cls := "java/lang/System", name := "arraycopy", desc := "(Ljava/lang/Object;ILjava/lang/Object;II)V" } : Jvm.MethodName)) ∈ lw_all := lw_g (lw_at lw_m4 30 rfl) rfl
theorem q147 : (Jvm.Cond.initialized "java/lang/Integer") ∈ lw_all := lw_g (lw_at lw_m1 34 rfl) rfl
theorem q1200 : (Jvm.Cond.static ({ cls := "java/lang/Integer", name := "bitCount", desc := "(I)I" } : Jvm.MethodName)) ∈ lw_all := lw_g (lw_at lw_m5 127 rfl) rfl
theorem q1201 : (Jvm.Cond.code ({ cls := "java/lang/Integer", name := "bitCount", desc := "(I)I" } : Jvm.MethodName) prog_26_method_49_code (1 : Nat) (Option.some Jvm.ClassFile.FieldType.int)) ∈ lw_all := lw_g (lw_at lw_m5 128 rfl) rfl
theorem q1202 : (Jvm.Cond.constant "java/lang/Integer" (265 : Nat) (1431655765 : Int32)) ∈ lw_all := lw_g (lw_at lw_m5 129 rfl) rfl
theorem q1203 : (Jvm.Cond.constant "java/lang/Integer" (266 : Nat) (858993459 : Int32)) ∈ lw_all := lw_g (lw_at lw_m5 130 rfl) rfl
theorem q1204 : (Jvm.Cond.constant "java/lang/Integer" (267 : Nat) (252645135 : Int32)) ∈ lw_all := lw_g (lw_at lw_m5 131 rfl) rfl
theorem q1246 : (Jvm.Cond.static ({ cls := "java/lang/Integer", name := "lowestOneBit", desc := "(I)I" } : Jvm.MethodName)) ∈ lw_all := lw_g (lw_at lw_m5 173 rfl) rfl
theorem q1247 : (Jvm.Cond.code ({ cls := "java/lang/Integer", name := "lowestOneBit", desc := "(I)I" } : Jvm.MethodName) prog_26_method_46_code (1 : Nat) (Option.some Jvm.ClassFile.FieldType.int)) ∈ lw_all := lw_g (lw_at lw_m5 174 rfl) rfl
theorem q155 : (Jvm.Cond.instanceMethod ({ cls := "java/lang/Object", name := "<init>", desc := "()V" } : Jvm.MethodName)) ∈ lw_all := lw_g (lw_at lw_m1 42 rfl) rfl
theorem q156 : (Jvm.Cond.code ({ cls := "java/lang/Object", name := "<init>", desc := "()V" } : Jvm.MethodName) object_method_1_code (1 : Nat) (Option.none : Option Jvm.ClassFile.FieldType)) ∈ lw_all := lw_g (lw_at lw_m1 43 rfl) rfl
theorem q833 : (Jvm.Cond.instanceMethod ({ cls := "java/lang/Object", name := "getClass", desc := "()Ljava/lang/Class;" } : Jvm.MethodName)) ∈ lw_all := lw_g (lw_at lw_m4 0 rfl) rfl
theorem q834 : (Jvm.Cond.sameMethod "java/lang/Object" "java/lang/Object" "getClass" "()Ljava/lang/Class;") ∈ lw_all := lw_g (lw_at lw_m4 1 rfl) rfl
theorem q853 : (Jvm.Cond.native ({ cls := "java/lang/Object", name := "getClass", desc := "()Ljava/lang/Class;" } : Jvm.MethodName)) ∈ lw_all := lw_g (lw_at lw_m4 20 rfl) rfl
theorem q2164 : (Jvm.Cond.initialized "java/lang/Object") ∈ lw_all := lw_g (lw_at lw_m9 131 rfl) rfl
theorem q2189 : (Jvm.Cond.declares ({ cls := "java/lang/Object", name := "getClass", desc := "()Ljava/lang/Class;" } : Jvm.MethodName)) ∈ lw_tbl := lw_at lw_m9 156 rfl
theorem q113 : (Jvm.Cond.initialized "TailorRegimentLaw") ∈ lw_all := lw_g (lw_at lw_m1 0 rfl) rfl
theorem q149 : (Jvm.Cond.classLink "TailorRegimentLaw" (7 : Nat) "TailorRegiment") ∈ lw_all := lw_g (lw_at lw_m1 36 rfl) rfl
theorem q151 : (Jvm.Cond.methodLink "TailorRegimentLaw" (9 : Nat) ({ cls := "TailorRegiment", name := "<init>", desc := "()V" } : Jvm.MethodName)) ∈ lw_all := lw_g (lw_at lw_m1 38 rfl) rfl
theorem q519 : (Jvm.Cond.methodLink "TailorRegimentLaw" (13 : Nat) ({ cls := "TailorRegiment", name := "feed", desc := "(IIIII)I" } : Jvm.MethodName)) ∈ lw_all := lw_g (lw_at lw_m2 166 rfl) rfl
theorem q527 : (Jvm.Cond.methodLink "TailorRegimentLaw" (18 : Nat) ({ cls := "TailorRegiment", name := "end", desc := "(I)I" } : Jvm.MethodName)) ∈ lw_all := lw_g (lw_at lw_m2 174 rfl) rfl
theorem q531 : (Jvm.Cond.methodLink "TailorRegimentLaw" (23 : Nat) ({ cls := "TailorRegiment", name := "regiment", desc := "()I" } : Jvm.MethodName)) ∈ lw_all := lw_g (lw_at lw_m2 178 rfl) rfl
theorem q987 : (Jvm.Cond.methodLink "TailorRegimentLaw" (28 : Nat) ({ cls := "TailorRegiment", name := "fault", desc := "(I)I" } : Jvm.MethodName)) ∈ lw_all := lw_g (lw_at lw_m4 154 rfl) rfl
theorem q991 : (Jvm.Cond.methodLink "TailorRegimentLaw" (32 : Nat) ({ cls := "TailorRegiment", name := "man", desc := "(II)I" } : Jvm.MethodName)) ∈ lw_all := lw_g (lw_at lw_m4 158 rfl) rfl
theorem q1049 : (Jvm.Cond.methodLink "TailorRegimentLaw" (37 : Nat) ({ cls := "TailorRegiment", name := "coat", desc := "(II)I" } : Jvm.MethodName)) ∈ lw_all := lw_g (lw_at lw_m4 216 rfl) rfl
theorem q1061 : (Jvm.Cond.methodLink "TailorRegimentLaw" (41 : Nat) ({ cls := "TailorRegiment", name := "misfit", desc := "(II)I" } : Jvm.MethodName)) ∈ lw_all := lw_g (lw_at lw_m4 228 rfl) rfl
theorem q1066 : (Jvm.Cond.methodLink "TailorRegimentLaw" (45 : Nat) ({ cls := "TailorRegiment", name := "day", desc := "()I" } : Jvm.MethodName)) ∈ lw_all := lw_g (lw_at lw_m4 233 rfl) rfl
theorem q1111 : (Jvm.Cond.methodLink "TailorRegimentLaw" (49 : Nat) ({ cls := "TailorRegiment", name := "don", desc := "(II)I" } : Jvm.MethodName)) ∈ lw_all := lw_g (lw_at lw_m5 38 rfl) rfl
theorem q1115 : (Jvm.Cond.methodLink "TailorRegimentLaw" (53 : Nat) ({ cls := "TailorRegiment", name := "doff", desc := "(I)I" } : Jvm.MethodName)) ∈ lw_all := lw_g (lw_at lw_m5 42 rfl) rfl
theorem q1119 : (Jvm.Cond.methodLink "TailorRegimentLaw" (57 : Nat) ({ cls := "TailorRegiment", name := "letout", desc := "(II)I" } : Jvm.MethodName)) ∈ lw_all := lw_g (lw_at lw_m5 46 rfl) rfl
theorem q1123 : (Jvm.Cond.methodLink "TailorRegimentLaw" (61 : Nat) ({ cls := "TailorRegiment", name := "takein", desc := "(II)I" } : Jvm.MethodName)) ∈ lw_all := lw_g (lw_at lw_m5 50 rfl) rfl
theorem q1127 : (Jvm.Cond.methodLink "TailorRegimentLaw" (65 : Nat) ({ cls := "TailorRegiment", name := "hem", desc := "(II)I" } : Jvm.MethodName)) ∈ lw_all := lw_g (lw_at lw_m5 54 rfl) rfl
theorem q1131 : (Jvm.Cond.methodLink "TailorRegimentLaw" (69 : Nat) ({ cls := "TailorRegiment", name := "turn", desc := "(I)I" } : Jvm.MethodName)) ∈ lw_all := lw_g (lw_at lw_m5 58 rfl) rfl
theorem q1138 : (Jvm.Cond.methodLink "TailorRegimentLaw" (73 : Nat) ({ cls := "TailorRegiment", name := "undo", desc := "()Z" } : Jvm.MethodName)) ∈ lw_all := lw_g (lw_at lw_m5 65 rfl) rfl
theorem q1150 : (Jvm.Cond.methodLink "TailorRegimentLaw" (78 : Nat) ({ cls := "TailorRegiment", name := "redo", desc := "()Z" } : Jvm.MethodName)) ∈ lw_all := lw_g (lw_at lw_m5 77 rfl) rfl
theorem q1154 : (Jvm.Cond.methodLink "TailorRegimentLaw" (82 : Nat) ({ cls := "TailorRegiment", name := "will", desc := "(III)I" } : Jvm.MethodName)) ∈ lw_all := lw_g (lw_at lw_m5 81 rfl) rfl
theorem q1159 : (Jvm.Cond.methodLink "TailorRegimentLaw" (87 : Nat) ({ cls := "TailorRegiment", name := "out", desc := "(I)I" } : Jvm.MethodName)) ∈ lw_all := lw_g (lw_at lw_m5 86 rfl) rfl
theorem q1168 : (Jvm.Cond.methodLink "TailorRegimentLaw" (159 : Nat) ({ cls := "TailorRegiment", name := "rout", desc := "()I" } : Jvm.MethodName)) ∈ lw_all := lw_g (lw_at lw_m5 95 rfl) rfl
theorem q1172 : (Jvm.Cond.methodLink "TailorRegimentLaw" (91 : Nat) ({ cls := "TailorRegiment", name := "fitted", desc := "()I" } : Jvm.MethodName)) ∈ lw_all := lw_g (lw_at lw_m5 99 rfl) rfl
theorem q1177 : (Jvm.Cond.methodLink "TailorRegimentLaw" (167 : Nat) ({ cls := "TailorRegiment", name := "lies", desc := "(I)I" } : Jvm.MethodName)) ∈ lw_all := lw_g (lw_at lw_m5 104 rfl) rfl
theorem q1181 : (Jvm.Cond.methodLink "TailorRegimentLaw" (95 : Nat) ({ cls := "TailorRegiment", name := "dress", desc := "(I)I" } : Jvm.MethodName)) ∈ lw_all := lw_g (lw_at lw_m5 108 rfl) rfl
theorem q1190 : (Jvm.Cond.methodLink "TailorRegimentLaw" (103 : Nat) ({ cls := "TailorRegiment", name := "rota", desc := "(I)I" } : Jvm.MethodName)) ∈ lw_all := lw_g (lw_at lw_m5 117 rfl) rfl
theorem q1194 : (Jvm.Cond.methodLink "TailorRegimentLaw" (107 : Nat) ({ cls := "TailorRegiment", name := "change", desc := "(I)I" } : Jvm.MethodName)) ∈ lw_all := lw_g (lw_at lw_m5 121 rfl) rfl
theorem q1209 : (Jvm.Cond.methodLink "TailorRegimentLaw" (99 : Nat) ({ cls := "TailorRegiment", name := "sewing", desc := "(III)I" } : Jvm.MethodName)) ∈ lw_all := lw_g (lw_at lw_m5 136 rfl) rfl
theorem q1217 : (Jvm.Cond.methodLink "TailorRegimentLaw" (131 : Nat) ({ cls := "TailorRegiment", name := "turning", desc := "()I" } : Jvm.MethodName)) ∈ lw_all := lw_g (lw_at lw_m5 144 rfl) rfl
theorem q1221 : (Jvm.Cond.methodLink "TailorRegimentLaw" (111 : Nat) ({ cls := "TailorRegiment", name := "front", desc := "(II)I" } : Jvm.MethodName)) ∈ lw_all := lw_g (lw_at lw_m5 148 rfl) rfl
theorem q1262 : (Jvm.Cond.methodLink "TailorRegimentLaw" (115 : Nat) ({ cls := "TailorRegiment", name := "wings", desc := "(I)I" } : Jvm.MethodName)) ∈ lw_all := lw_g (lw_at lw_m5 189 rfl) rfl
theorem q1270 : (Jvm.Cond.methodLink "TailorRegimentLaw" (155 : Nat) ({ cls := "TailorRegiment", name := "breadth", desc := "()I" } : Jvm.MethodName)) ∈ lw_all := lw_g (lw_at lw_m5 197 rfl) rfl
theorem q1275 : (Jvm.Cond.methodLink "TailorRegimentLaw" (119 : Nat) ({ cls := "TailorRegiment", name := "cloth", desc := "()I" } : Jvm.MethodName)) ∈ lw_all := lw_g (lw_at lw_m5 202 rfl) rfl
theorem q1283 : (Jvm.Cond.methodLink "TailorRegimentLaw" (123 : Nat) ({ cls := "TailorRegiment", name := "buttons", desc := "()I" } : Jvm.MethodName)) ∈ lw_all := lw_g (lw_at lw_m5 210 rfl) rfl
theorem q1296 : (Jvm.Cond.methodLink "TailorRegimentLaw" (127 : Nat) ({ cls := "TailorRegiment", name := "reach", desc := "(II)I" } : Jvm.MethodName)) ∈ lw_all := lw_g (lw_at lw_m5 223 rfl) rfl
theorem q1308 : (Jvm.Cond.methodLink "TailorRegimentLaw" (135 : Nat) ({ cls := "TailorRegiment", name := "rags", desc := "()I" } : Jvm.MethodName)) ∈ lw_all := lw_g (lw_at lw_m5 235 rfl) rfl
theorem q1316 : (Jvm.Cond.methodLink "TailorRegimentLaw" (139 : Nat) ({ cls := "TailorRegiment", name := "naked", desc := "()I" } : Jvm.MethodName)) ∈ lw_all := lw_g (lw_at lw_m6 3 rfl) rfl
theorem q1320 : (Jvm.Cond.methodLink "TailorRegimentLaw" (143 : Nat) ({ cls := "TailorRegiment", name := "popular", desc := "(I)I" } : Jvm.MethodName)) ∈ lw_all := lw_g (lw_at lw_m6 7 rfl) rfl
theorem q1321 : (Jvm.Cond.methodLink "TailorRegimentLaw" (147 : Nat) ({ cls := "TailorRegiment", name := "law", desc := "(I)I" } : Jvm.MethodName)) ∈ lw_all := lw_g (lw_at lw_m6 8 rfl) rfl
theorem q1325 : (Jvm.Cond.methodLink "TailorRegimentLaw" (151 : Nat) ({ cls := "TailorRegiment", name := "ease", desc := "()I" } : Jvm.MethodName)) ∈ lw_all := lw_g (lw_at lw_m6 12 rfl) rfl
theorem q1329 : (Jvm.Cond.methodLink "TailorRegimentLaw" (163 : Nat) ({ cls := "TailorRegiment", name := "odds", desc := "(II)I" } : Jvm.MethodName)) ∈ lw_all := lw_g (lw_at lw_m6 16 rfl) rfl
theorem q1336 : (Jvm.Cond.methodLink "TailorRegimentLaw" (171 : Nat) ({ cls := "TailorRegiment", name := "seen", desc := "(IZ)I" } : Jvm.MethodName)) ∈ lw_all := lw_g (lw_at lw_m6 23 rfl) rfl
theorem q1362 : (Jvm.Cond.methodLink "TailorRegimentLaw" (176 : Nat) ({ cls := "TailorRegiment", name := "untell", desc := "(I)Z" } : Jvm.MethodName)) ∈ lw_all := lw_g (lw_at lw_m6 49 rfl) rfl
theorem q1366 : (Jvm.Cond.methodLink "TailorRegimentLaw" (181 : Nat) ({ cls := "TailorRegiment", name := "later", desc := "(I)I" } : Jvm.MethodName)) ∈ lw_all := lw_g (lw_at lw_m6 53 rfl) rfl
theorem q1371 : (Jvm.Cond.methodLink "TailorRegimentLaw" (185 : Nat) ({ cls := "TailorRegiment", name := "growths", desc := "(I)I" } : Jvm.MethodName)) ∈ lw_all := lw_g (lw_at lw_m6 58 rfl) rfl
theorem q1392 : (Jvm.Cond.methodLink "TailorRegimentLaw" (189 : Nat) ({ cls := "TailorRegiment", name := "sure", desc := "(II)I" } : Jvm.MethodName)) ∈ lw_all := lw_g (lw_at lw_m6 79 rfl) rfl
theorem q1397 : (Jvm.Cond.methodLink "TailorRegimentLaw" (193 : Nat) ({ cls := "TailorRegiment", name := "ask", desc := "(II)I" } : Jvm.MethodName)) ∈ lw_all := lw_g (lw_at lw_m6 84 rfl) rfl
theorem q1405 : (Jvm.Cond.methodLink "TailorRegimentLaw" (197 : Nat) ({ cls := "TailorRegiment", name := "image", desc := "(I)I" } : Jvm.MethodName)) ∈ lw_all := lw_g (lw_at lw_m6 92 rfl) rfl
theorem q1409 : (Jvm.Cond.methodLink "TailorRegimentLaw" (201 : Nat) ({ cls := "TailorRegiment", name := "back", desc := "(I)I" } : Jvm.MethodName)) ∈ lw_all := lw_g (lw_at lw_m6 96 rfl) rfl
theorem q1413 : (Jvm.Cond.methodLink "TailorRegimentLaw" (205 : Nat) ({ cls := "TailorRegiment", name := "about", desc := "(I)I" } : Jvm.MethodName)) ∈ lw_all := lw_g (lw_at lw_m6 100 rfl) rfl
theorem q1417 : (Jvm.Cond.classLink "TailorRegimentLaw" (10 : Nat) "TailorRegimentModel") ∈ lw_all := lw_g (lw_at lw_m6 104 rfl) rfl
theorem q1419 : (Jvm.Cond.methodLink "TailorRegimentLaw" (12 : Nat) ({ cls := "TailorRegimentModel", name := "<init>", desc := "()V" } : Jvm.MethodName)) ∈ lw_all := lw_g (lw_at lw_m6 106 rfl) rfl
theorem q1662 : (Jvm.Cond.methodLink "TailorRegimentLaw" (17 : Nat) ({ cls := "TailorRegimentModel", name := "feed", desc := "(IIIII)I" } : Jvm.MethodName)) ∈ lw_all := lw_g (lw_at lw_m7 109 rfl) rfl
theorem q1670 : (Jvm.Cond.methodLink "TailorRegimentLaw" (22 : Nat) ({ cls := "TailorRegimentModel", name := "end", desc := "(I)I" } : Jvm.MethodName)) ∈ lw_all := lw_g (lw_at lw_m7 117 rfl) rfl
theorem q1674 : (Jvm.Cond.methodLink "TailorRegimentLaw" (27 : Nat) ({ cls := "TailorRegimentModel", name := "regiment", desc := "()I" } : Jvm.MethodName)) ∈ lw_all := lw_g (lw_at lw_m7 121 rfl) rfl
theorem q1827 : (Jvm.Cond.methodLink "TailorRegimentLaw" (31 : Nat) ({ cls := "TailorRegimentModel", name := "fault", desc := "(I)I" } : Jvm.MethodName)) ∈ lw_all := lw_g (lw_at lw_m8 34 rfl) rfl
theorem q1831 : (Jvm.Cond.methodLink "TailorRegimentLaw" (36 : Nat) ({ cls := "TailorRegimentModel", name := "man", desc := "(II)I" } : Jvm.MethodName)) ∈ lw_all := lw_g (lw_at lw_m8 38 rfl) rfl
theorem q1870 : (Jvm.Cond.methodLink "TailorRegimentLaw" (40 : Nat) ({ cls := "TailorRegimentModel", name := "coat", desc := "(II)I" } : Jvm.MethodName)) ∈ lw_all := lw_g (lw_at lw_m8 77 rfl) rfl
theorem q1882 : (Jvm.Cond.methodLink "TailorRegimentLaw" (44 : Nat) ({ cls := "TailorRegimentModel", name := "misfit", desc := "(II)I" } : Jvm.MethodName)) ∈ lw_all := lw_g (lw_at lw_m8 89 rfl) rfl
theorem q1886 : (Jvm.Cond.methodLink "TailorRegimentLaw" (48 : Nat) ({ cls := "TailorRegimentModel", name := "day", desc := "()I" } : Jvm.MethodName)) ∈ lw_all := lw_g (lw_at lw_m8 93 rfl) rfl
theorem q1920 : (Jvm.Cond.methodLink "TailorRegimentLaw" (52 : Nat) ({ cls := "TailorRegimentModel", name := "don", desc := "(II)I" } : Jvm.MethodName)) ∈ lw_all := lw_g (lw_at lw_m8 127 rfl) rfl
theorem q1924 : (Jvm.Cond.methodLink "TailorRegimentLaw" (56 : Nat) ({ cls := "TailorRegimentModel", name := "doff", desc := "(I)I" } : Jvm.MethodName)) ∈ lw_all := lw_g (lw_at lw_m8 131 rfl) rfl
theorem q1928 : (Jvm.Cond.methodLink "TailorRegimentLaw" (60 : Nat) ({ cls := "TailorRegimentModel", name := "letout", desc := "(II)I" } : Jvm.MethodName)) ∈ lw_all := lw_g (lw_at lw_m8 135 rfl) rfl
theorem q1932 : (Jvm.Cond.methodLink "TailorRegimentLaw" (64 : Nat) ({ cls := "TailorRegimentModel", name := "takein", desc := "(II)I" } : Jvm.MethodName)) ∈ lw_all := lw_g (lw_at lw_m8 139 rfl) rfl
theorem q1936 : (Jvm.Cond.methodLink "TailorRegimentLaw" (68 : Nat) ({ cls := "TailorRegimentModel", name := "hem", desc := "(II)I" } : Jvm.MethodName)) ∈ lw_all := lw_g (lw_at lw_m8 143 rfl) rfl
theorem q1940 : (Jvm.Cond.methodLink "TailorRegimentLaw" (72 : Nat) ({ cls := "TailorRegimentModel", name := "turn", desc := "(I)I" } : Jvm.MethodName)) ∈ lw_all := lw_g (lw_at lw_m8 147 rfl) rfl
theorem q1944 : (Jvm.Cond.methodLink "TailorRegimentLaw" (77 : Nat) ({ cls := "TailorRegimentModel", name := "undo", desc := "()Z" } : Jvm.MethodName)) ∈ lw_all := lw_g (lw_at lw_m8 151 rfl) rfl
theorem q1952 : (Jvm.Cond.methodLink "TailorRegimentLaw" (81 : Nat) ({ cls := "TailorRegimentModel", name := "redo", desc := "()Z" } : Jvm.MethodName)) ∈ lw_all := lw_g (lw_at lw_m8 159 rfl) rfl
theorem q1956 : (Jvm.Cond.methodLink "TailorRegimentLaw" (86 : Nat) ({ cls := "TailorRegimentModel", name := "will", desc := "(III)I" } : Jvm.MethodName)) ∈ lw_all := lw_g (lw_at lw_m8 163 rfl) rfl
theorem q1960 : (Jvm.Cond.methodLink "TailorRegimentLaw" (90 : Nat) ({ cls := "TailorRegimentModel", name := "out", desc := "(I)I" } : Jvm.MethodName)) ∈ lw_all := lw_g (lw_at lw_m8 167 rfl) rfl
theorem q1964 : (Jvm.Cond.methodLink "TailorRegimentLaw" (162 : Nat) ({ cls := "TailorRegimentModel", name := "rout", desc := "()I" } : Jvm.MethodName)) ∈ lw_all := lw_g (lw_at lw_m8 171 rfl) rfl
theorem q1968 : (Jvm.Cond.methodLink "TailorRegimentLaw" (94 : Nat) ({ cls := "TailorRegimentModel", name := "fitted", desc := "()I" } : Jvm.MethodName)) ∈ lw_all := lw_g (lw_at lw_m8 175 rfl) rfl
theorem q1972 : (Jvm.Cond.methodLink "TailorRegimentLaw" (98 : Nat) ({ cls := "TailorRegimentModel", name := "dress", desc := "(I)I" } : Jvm.MethodName)) ∈ lw_all := lw_g (lw_at lw_m8 179 rfl) rfl
theorem q1991 : (Jvm.Cond.methodLink "TailorRegimentLaw" (102 : Nat) ({ cls := "TailorRegimentModel", name := "sewing", desc := "(III)I" } : Jvm.MethodName)) ∈ lw_all := lw_g (lw_at lw_m8 198 rfl) rfl
theorem q1999 : (Jvm.Cond.methodLink "TailorRegimentLaw" (106 : Nat) ({ cls := "TailorRegimentModel", name := "rota", desc := "(I)I" } : Jvm.MethodName)) ∈ lw_all := lw_g (lw_at lw_m8 206 rfl) rfl
theorem q2006 : (Jvm.Cond.methodLink "TailorRegimentLaw" (110 : Nat) ({ cls := "TailorRegimentModel", name := "change", desc := "(I)I" } : Jvm.MethodName)) ∈ lw_all := lw_g (lw_at lw_m8 213 rfl) rfl
theorem q2011 : (Jvm.Cond.methodLink "TailorRegimentLaw" (114 : Nat) ({ cls := "TailorRegimentModel", name := "front", desc := "(II)I" } : Jvm.MethodName)) ∈ lw_all := lw_g (lw_at lw_m8 218 rfl) rfl
theorem q2019 : (Jvm.Cond.methodLink "TailorRegimentLaw" (118 : Nat) ({ cls := "TailorRegimentModel", name := "wings", desc := "(I)I" } : Jvm.MethodName)) ∈ lw_all := lw_g (lw_at lw_m8 226 rfl) rfl
theorem q2026 : (Jvm.Cond.methodLink "TailorRegimentLaw" (122 : Nat) ({ cls := "TailorRegimentModel", name := "cloth", desc := "()I" } : Jvm.MethodName)) ∈ lw_all := lw_g (lw_at lw_m8 233 rfl) rfl
theorem q2035 : (Jvm.Cond.methodLink "TailorRegimentLaw" (126 : Nat) ({ cls := "TailorRegimentModel", name := "buttons", desc := "()I" } : Jvm.MethodName)) ∈ lw_all := lw_g (lw_at lw_m9 2 rfl) rfl
theorem q2047 : (Jvm.Cond.methodLink "TailorRegimentLaw" (130 : Nat) ({ cls := "TailorRegimentModel", name := "reach", desc := "(II)I" } : Jvm.MethodName)) ∈ lw_all := lw_g (lw_at lw_m9 14 rfl) rfl
theorem q2063 : (Jvm.Cond.methodLink "TailorRegimentLaw" (134 : Nat) ({ cls := "TailorRegimentModel", name := "turning", desc := "()I" } : Jvm.MethodName)) ∈ lw_all := lw_g (lw_at lw_m9 30 rfl) rfl
theorem q2067 : (Jvm.Cond.methodLink "TailorRegimentLaw" (138 : Nat) ({ cls := "TailorRegimentModel", name := "rags", desc := "()I" } : Jvm.MethodName)) ∈ lw_all := lw_g (lw_at lw_m9 34 rfl) rfl
theorem q2075 : (Jvm.Cond.methodLink "TailorRegimentLaw" (142 : Nat) ({ cls := "TailorRegimentModel", name := "naked", desc := "()I" } : Jvm.MethodName)) ∈ lw_all := lw_g (lw_at lw_m9 42 rfl) rfl
theorem q2079 : (Jvm.Cond.methodLink "TailorRegimentLaw" (146 : Nat) ({ cls := "TailorRegimentModel", name := "popular", desc := "(I)I" } : Jvm.MethodName)) ∈ lw_all := lw_g (lw_at lw_m9 46 rfl) rfl
theorem q2083 : (Jvm.Cond.methodLink "TailorRegimentLaw" (150 : Nat) ({ cls := "TailorRegimentModel", name := "law", desc := "(I)I" } : Jvm.MethodName)) ∈ lw_all := lw_g (lw_at lw_m9 50 rfl) rfl
theorem q2091 : (Jvm.Cond.methodLink "TailorRegimentLaw" (154 : Nat) ({ cls := "TailorRegimentModel", name := "ease", desc := "()I" } : Jvm.MethodName)) ∈ lw_all := lw_g (lw_at lw_m9 58 rfl) rfl
theorem q2095 : (Jvm.Cond.methodLink "TailorRegimentLaw" (158 : Nat) ({ cls := "TailorRegimentModel", name := "breadth", desc := "()I" } : Jvm.MethodName)) ∈ lw_all := lw_g (lw_at lw_m9 62 rfl) rfl
theorem q2099 : (Jvm.Cond.methodLink "TailorRegimentLaw" (166 : Nat) ({ cls := "TailorRegimentModel", name := "odds", desc := "(II)I" } : Jvm.MethodName)) ∈ lw_all := lw_g (lw_at lw_m9 66 rfl) rfl
theorem q2106 : (Jvm.Cond.methodLink "TailorRegimentLaw" (170 : Nat) ({ cls := "TailorRegimentModel", name := "lies", desc := "(I)I" } : Jvm.MethodName)) ∈ lw_all := lw_g (lw_at lw_m9 73 rfl) rfl
theorem q2110 : (Jvm.Cond.methodLink "TailorRegimentLaw" (175 : Nat) ({ cls := "TailorRegimentModel", name := "seen", desc := "(IZ)I" } : Jvm.MethodName)) ∈ lw_all := lw_g (lw_at lw_m9 77 rfl) rfl
theorem q2114 : (Jvm.Cond.methodLink "TailorRegimentLaw" (180 : Nat) ({ cls := "TailorRegimentModel", name := "untell", desc := "(I)Z" } : Jvm.MethodName)) ∈ lw_all := lw_g (lw_at lw_m9 81 rfl) rfl
theorem q2118 : (Jvm.Cond.methodLink "TailorRegimentLaw" (184 : Nat) ({ cls := "TailorRegimentModel", name := "later", desc := "(I)I" } : Jvm.MethodName)) ∈ lw_all := lw_g (lw_at lw_m9 85 rfl) rfl
theorem q2123 : (Jvm.Cond.methodLink "TailorRegimentLaw" (188 : Nat) ({ cls := "TailorRegimentModel", name := "growths", desc := "(I)I" } : Jvm.MethodName)) ∈ lw_all := lw_g (lw_at lw_m9 90 rfl) rfl
theorem q2135 : (Jvm.Cond.methodLink "TailorRegimentLaw" (192 : Nat) ({ cls := "TailorRegimentModel", name := "sure", desc := "(II)I" } : Jvm.MethodName)) ∈ lw_all := lw_g (lw_at lw_m9 102 rfl) rfl
theorem q2139 : (Jvm.Cond.methodLink "TailorRegimentLaw" (196 : Nat) ({ cls := "TailorRegimentModel", name := "ask", desc := "(II)I" } : Jvm.MethodName)) ∈ lw_all := lw_g (lw_at lw_m9 106 rfl) rfl
theorem q2147 : (Jvm.Cond.methodLink "TailorRegimentLaw" (200 : Nat) ({ cls := "TailorRegimentModel", name := "image", desc := "(I)I" } : Jvm.MethodName)) ∈ lw_all := lw_g (lw_at lw_m9 114 rfl) rfl
theorem q2154 : (Jvm.Cond.methodLink "TailorRegimentLaw" (204 : Nat) ({ cls := "TailorRegimentModel", name := "back", desc := "(I)I" } : Jvm.MethodName)) ∈ lw_all := lw_g (lw_at lw_m9 121 rfl) rfl
theorem q2158 : (Jvm.Cond.methodLink "TailorRegimentLaw" (208 : Nat) ({ cls := "TailorRegimentModel", name := "about", desc := "(I)I" } : Jvm.MethodName)) ∈ lw_all := lw_g (lw_at lw_m9 125 rfl) rfl
theorem q2191 : (Jvm.Cond.castable "[B" "java/lang/Object") ∈ lw_tbl := lw_at lw_m9 158 rfl
theorem q2190 : (Jvm.Cond.castable "[I" "java/lang/Object") ∈ lw_tbl := lw_at lw_m9 157 rfl
theorem q2195 : (Jvm.Cond.castable "[J" "java/lang/Object") ∈ lw_tbl := lw_at lw_m9 162 rfl
theorem q2192 : (Jvm.Cond.castable "[LTailorRegiment$Kept;" "java/lang/Object") ∈ lw_tbl := lw_at lw_m9 159 rfl
theorem q2187 : (Jvm.Cond.sameMethod "[Ljava/lang/Object;" "java/lang/Object" "getClass" "()Ljava/lang/Class;") ∈ lw_all := lw_g (lw_at lw_m9 154 rfl) rfl
theorem q2188 : (Jvm.Cond.selects "[Ljava/lang/Object;" ({ cls := "java/lang/Object", name := "getClass", desc := "()Ljava/lang/Class;" } : Jvm.MethodName) ({ cls := "java/lang/Object", name := "getClass", desc := "()Ljava/lang/Class;" } : Jvm.MethodName)) ∈ lw_all := lw_g (lw_at lw_m9 155 rfl) rfl
theorem q2194 : (Jvm.Cond.castable "[Ljava/lang/Object;" "java/lang/Object") ∈ lw_tbl := lw_at lw_m9 161 rfl
theorem q2196 : (Jvm.Cond.castable "[Ljava/lang/String;" "java/lang/Object") ∈ lw_tbl := lw_at lw_m9 163 rfl
theorem q2193 : (Jvm.Cond.castable "[Z" "java/lang/Object") ∈ lw_tbl := lw_at lw_m9 160 rfl
theorem q140 : (Jvm.Cond.initialized "java/lang/System") ∈ lw_all := lw_g (lw_at lw_m1 27 rfl) rfl
theorem q864 : (Jvm.Cond.static ({ cls := "java/lang/System", name := "arraycopy", desc := "(Ljava/lang/Object;ILjava/lang/Object;II)V" } : Jvm.MethodName)) ∈ lw_all := lw_g (lw_at lw_m4 31 rfl) rfl
theorem q865 : (Jvm.Cond.native ({ cls := "java/lang/System", name := "arraycopy", desc := "(Ljava/lang/Object;ILjava/lang/Object;II)V" } : Jvm.MethodName)) ∈ lw_all := lw_g (lw_at lw_m4 32 rfl) rfl
theorem q726 : (Jvm.Cond.interfaceMethod "java/util/Iterator" "java/util/Iterator" "hasNext" "()Z") ∈ lw_tbl := lw_at lw_m3 133 rfl
theorem q727 : (Jvm.Cond.declares ({ cls := "java/util/Iterator", name := "hasNext", desc := "()Z" } : Jvm.MethodName)) ∈ lw_tbl := lw_at lw_m3 134 rfl
theorem q736 : (Jvm.Cond.interfaceMethod "java/util/Iterator" "java/util/Iterator" "next" "()Ljava/lang/Object;") ∈ lw_tbl := lw_at lw_m3 143 rfl
theorem q737 : (Jvm.Cond.declares ({ cls := "java/util/Iterator", name := "next", desc := "()Ljava/lang/Object;" } : Jvm.MethodName)) ∈ lw_tbl := lw_at lw_m3 144 rfl
theorem q255 : (Jvm.Cond.arrayClass Jvm.ClassFile.FieldType.int) ∈ lw_all := lw_g (lw_at lw_m1 142 rfl) rfl
theorem q368 : (Jvm.Cond.arrayClass Jvm.ClassFile.FieldType.byte) ∈ lw_all := lw_g (lw_at lw_m2 15 rfl) rfl
theorem q407 : (Jvm.Cond.arrayOver (Jvm.ClassFile.FieldType.object "TailorRegiment$Kept")) ∈ lw_tbl := lw_at lw_m2 54 rfl
theorem q418 : (Jvm.Cond.arrayClass Jvm.ClassFile.FieldType.boolean) ∈ lw_all := lw_g (lw_at lw_m2 65 rfl) rfl
theorem q858 : (Jvm.Cond.arrayOver (Jvm.ClassFile.FieldType.object "java/lang/Object")) ∈ lw_tbl := lw_at lw_m4 25 rfl
theorem q1661 : (Jvm.Cond.arrayClass Jvm.ClassFile.FieldType.long) ∈ lw_all := lw_g (lw_at lw_m7 108 rfl) rfl
theorem q2204 : (Jvm.Cond.arrayOver (Jvm.ClassFile.FieldType.object "java/lang/String")) ∈ lw_tbl := lw_at lw_m9 171 rfl
