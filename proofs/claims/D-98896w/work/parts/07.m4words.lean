set_option maxRecDepth 100000
theorem q127 : (Jvm.Cond.initialized "MouldVotesModel") ∈ lw_all := lw_g (lw_at lw_m1 7 rfl) rfl
theorem q402 : (Jvm.Cond.selects "MouldVotesModel" ({ cls := "java/lang/Object", name := "getClass", desc := "()Ljava/lang/Class;" } : Jvm.MethodName) ({ cls := "java/lang/Object", name := "getClass", desc := "()Ljava/lang/Class;" } : Jvm.MethodName)) ∈ lw_all := lw_g (lw_at lw_m2 42 rfl) rfl
theorem q1554 : (Jvm.Cond.instantiable "MouldVotesModel" (64 : Nat)) ∈ lw_all := lw_g (lw_at lw_m6 234 rfl) rfl
theorem q1556 : (Jvm.Cond.instanceMethod ({ cls := "MouldVotesModel", name := "<init>", desc := "()V" } : Jvm.MethodName)) ∈ lw_all := lw_g (lw_at lw_m6 236 rfl) rfl
theorem q1557 : (Jvm.Cond.code ({ cls := "MouldVotesModel", name := "<init>", desc := "()V" } : Jvm.MethodName) prog_12_method_1_code (2 : Nat) (Option.none : Option Jvm.ClassFile.FieldType)) ∈ lw_all := lw_g (lw_at lw_m6 237 rfl) rfl
theorem q1558 : (Jvm.Cond.methodLink "MouldVotesModel" (1 : Nat) ({ cls := "java/lang/Object", name := "<init>", desc := "()V" } : Jvm.MethodName)) ∈ lw_all := lw_g (lw_at lw_m6 238 rfl) rfl
theorem q1559 : (Jvm.Cond.methodLink "MouldVotesModel" (111 : Nat) ({ cls := "MouldVotesModel", name := "empties", desc := "([II)V" } : Jvm.MethodName)) ∈ lw_all := lw_g (lw_at lw_m6 239 rfl) rfl
theorem q1560 : (Jvm.Cond.privateMethod ({ cls := "MouldVotesModel", name := "empties", desc := "([II)V" } : Jvm.MethodName)) ∈ lw_tbl := lw_at lw_m7 0 rfl
theorem q1561 : (Jvm.Cond.instanceMethod ({ cls := "MouldVotesModel", name := "empties", desc := "([II)V" } : Jvm.MethodName)) ∈ lw_all := lw_g (lw_at lw_m7 1 rfl) rfl
theorem q1562 : (Jvm.Cond.code ({ cls := "MouldVotesModel", name := "empties", desc := "([II)V" } : Jvm.MethodName) prog_12_method_2_code (3 : Nat) (Option.none : Option Jvm.ClassFile.FieldType)) ∈ lw_all := lw_g (lw_at lw_m7 2 rfl) rfl
theorem q1563 : (Jvm.Cond.fieldLink "MouldVotesModel" (115 : Nat) "MouldVotesModel" "thrown" "I") ∈ lw_all := lw_g (lw_at lw_m7 3 rfl) rfl
theorem q1564 : (Jvm.Cond.fieldLink "MouldVotesModel" (7 : Nat) "MouldVotesModel" "wide" "I") ∈ lw_all := lw_g (lw_at lw_m7 4 rfl) rfl
theorem q1565 : (Jvm.Cond.fieldLink "MouldVotesModel" (13 : Nat) "MouldVotesModel" "high" "I") ∈ lw_all := lw_g (lw_at lw_m7 5 rfl) rfl
theorem q1566 : (Jvm.Cond.fieldLink "MouldVotesModel" (297 : Nat) "MouldVotesModel" "kinds" "I") ∈ lw_all := lw_g (lw_at lw_m7 6 rfl) rfl
theorem q1567 : (Jvm.Cond.fieldLink "MouldVotesModel" (300 : Nat) "MouldVotesModel" "numbers" "I") ∈ lw_all := lw_g (lw_at lw_m7 7 rfl) rfl
theorem q1568 : (Jvm.Cond.fieldLink "MouldVotesModel" (16 : Nat) "MouldVotesModel" "age" "I") ∈ lw_all := lw_g (lw_at lw_m7 8 rfl) rfl
theorem q1569 : (Jvm.Cond.fieldLink "MouldVotesModel" (19 : Nat) "MouldVotesModel" "spores" "I") ∈ lw_all := lw_g (lw_at lw_m7 9 rfl) rfl
theorem q1570 : (Jvm.Cond.fieldLink "MouldVotesModel" (22 : Nat) "MouldVotesModel" "growsAt" "I") ∈ lw_all := lw_g (lw_at lw_m7 10 rfl) rfl
theorem q1571 : (Jvm.Cond.fieldLink "MouldVotesModel" (25 : Nat) "MouldVotesModel" "beatsAt" "I") ∈ lw_all := lw_g (lw_at lw_m7 11 rfl) rfl
theorem q1572 : (Jvm.Cond.fieldLink "MouldVotesModel" (28 : Nat) "MouldVotesModel" "partyOf" "[I") ∈ lw_all := lw_g (lw_at lw_m7 12 rfl) rfl
theorem q1573 : (Jvm.Cond.fieldLink "MouldVotesModel" (32 : Nat) "MouldVotesModel" "warmth" "[I") ∈ lw_all := lw_g (lw_at lw_m7 13 rfl) rfl
theorem q1574 : (Jvm.Cond.fieldLink "MouldVotesModel" (35 : Nat) "MouldVotesModel" "code" "[I") ∈ lw_all := lw_g (lw_at lw_m7 14 rfl) rfl
theorem q1575 : (Jvm.Cond.fieldLink "MouldVotesModel" (38 : Nat) "MouldVotesModel" "tape" "[I") ∈ lw_all := lw_g (lw_at lw_m7 15 rfl) rfl
theorem q1576 : (Jvm.Cond.fieldLink "MouldVotesModel" (118 : Nat) "MouldVotesModel" "taped" "I") ∈ lw_all := lw_g (lw_at lw_m7 16 rfl) rfl
theorem q1577 : (Jvm.Cond.fieldLink "MouldVotesModel" (171 : Nat) "MouldVotesModel" "faultKind" "I") ∈ lw_all := lw_g (lw_at lw_m7 17 rfl) rfl
theorem q1578 : (Jvm.Cond.fieldLink "MouldVotesModel" (41 : Nat) "MouldVotesModel" "faultPlace" "I") ∈ lw_all := lw_g (lw_at lw_m7 18 rfl) rfl
theorem q1579 : (Jvm.Cond.fieldLink "MouldVotesModel" (44 : Nat) "MouldVotesModel" "refused" "[I") ∈ lw_all := lw_g (lw_at lw_m7 19 rfl) rfl
theorem q1580 : (Jvm.Cond.fieldLink "MouldVotesModel" (125 : Nat) "MouldVotesModel" "long1" "I") ∈ lw_all := lw_g (lw_at lw_m7 20 rfl) rfl
theorem q1581 : (Jvm.Cond.fieldLink "MouldVotesModel" (128 : Nat) "MouldVotesModel" "next0" "I") ∈ lw_all := lw_g (lw_at lw_m7 21 rfl) rfl
theorem q1582 : (Jvm.Cond.fieldLink "MouldVotesModel" (148 : Nat) "MouldVotesModel" "sort" "I") ∈ lw_all := lw_g (lw_at lw_m7 22 rfl) rfl
theorem q1583 : (Jvm.Cond.fieldLink "MouldVotesModel" (135 : Nat) "MouldVotesModel" "place" "I") ∈ lw_all := lw_g (lw_at lw_m7 23 rfl) rfl
theorem q1584 : (Jvm.Cond.fieldLink "MouldVotesModel" (158 : Nat) "MouldVotesModel" "long0" "I") ∈ lw_all := lw_g (lw_at lw_m7 24 rfl) rfl
theorem q1585 : (Jvm.Cond.fieldLink "MouldVotesModel" (142 : Nat) "MouldVotesModel" "value" "I") ∈ lw_all := lw_g (lw_at lw_m7 25 rfl) rfl
theorem q1586 : (Jvm.Cond.fieldLink "MouldVotesModel" (145 : Nat) "MouldVotesModel" "sign" "I") ∈ lw_all := lw_g (lw_at lw_m7 26 rfl) rfl
theorem q1587 : (Jvm.Cond.fieldLink "MouldVotesModel" (138 : Nat) "MouldVotesModel" "word" "J") ∈ lw_all := lw_g (lw_at lw_m7 27 rfl) rfl
theorem q1588 : (Jvm.Cond.fieldLink "MouldVotesModel" (234 : Nat) "MouldVotesModel" "newWide" "I") ∈ lw_all := lw_g (lw_at lw_m7 28 rfl) rfl
theorem q1589 : (Jvm.Cond.fieldLink "MouldVotesModel" (237 : Nat) "MouldVotesModel" "newHigh" "I") ∈ lw_all := lw_g (lw_at lw_m7 29 rfl) rfl
theorem q1590 : (Jvm.Cond.fieldLink "MouldVotesModel" (250 : Nat) "MouldVotesModel" "newKinds" "I") ∈ lw_all := lw_g (lw_at lw_m7 30 rfl) rfl
theorem q1591 : (Jvm.Cond.fieldLink "MouldVotesModel" (253 : Nat) "MouldVotesModel" "newNumbers" "I") ∈ lw_all := lw_g (lw_at lw_m7 31 rfl) rfl
theorem q1592 : (Jvm.Cond.fieldLink "MouldVotesModel" (272 : Nat) "MouldVotesModel" "newAge" "I") ∈ lw_all := lw_g (lw_at lw_m7 32 rfl) rfl
theorem q1593 : (Jvm.Cond.fieldLink "MouldVotesModel" (275 : Nat) "MouldVotesModel" "newSpores" "I") ∈ lw_all := lw_g (lw_at lw_m7 33 rfl) rfl
theorem q1594 : (Jvm.Cond.fieldLink "MouldVotesModel" (278 : Nat) "MouldVotesModel" "newGrowsAt" "I") ∈ lw_all := lw_g (lw_at lw_m7 34 rfl) rfl
theorem q1595 : (Jvm.Cond.fieldLink "MouldVotesModel" (284 : Nat) "MouldVotesModel" "newBeatsAt" "I") ∈ lw_all := lw_g (lw_at lw_m7 35 rfl) rfl
theorem q1596 : (Jvm.Cond.fieldLink "MouldVotesModel" (184 : Nat) "MouldVotesModel" "top" "I") ∈ lw_all := lw_g (lw_at lw_m7 36 rfl) rfl
theorem q1597 : (Jvm.Cond.fieldLink "MouldVotesModel" (187 : Nat) "MouldVotesModel" "waiting" "I") ∈ lw_all := lw_g (lw_at lw_m7 37 rfl) rfl
theorem q1598 : (Jvm.Cond.fieldLink "MouldVotesModel" (206 : Nat) "MouldVotesModel" "depth" "I") ∈ lw_all := lw_g (lw_at lw_m7 38 rfl) rfl
theorem q1599 : (Jvm.Cond.fieldLink "MouldVotesModel" (203 : Nat) "MouldVotesModel" "may" "I") ∈ lw_all := lw_g (lw_at lw_m7 39 rfl) rfl
theorem q1600 : (Jvm.Cond.fieldLink "MouldVotesModel" (47 : Nat) "MouldVotesModel" "newPartyOf" "[I") ∈ lw_all := lw_g (lw_at lw_m7 40 rfl) rfl
theorem q1601 : (Jvm.Cond.fieldLink "MouldVotesModel" (50 : Nat) "MouldVotesModel" "newWarmth" "[I") ∈ lw_all := lw_g (lw_at lw_m7 41 rfl) rfl
theorem q1602 : (Jvm.Cond.fieldLink "MouldVotesModel" (53 : Nat) "MouldVotesModel" "newRow" "[I") ∈ lw_all := lw_g (lw_at lw_m7 42 rfl) rfl
theorem q1603 : (Jvm.Cond.fieldLink "MouldVotesModel" (56 : Nat) "MouldVotesModel" "readCode" "[I") ∈ lw_all := lw_g (lw_at lw_m7 43 rfl) rfl
theorem q1604 : (Jvm.Cond.fieldLink "MouldVotesModel" (59 : Nat) "MouldVotesModel" "waits" "[I") ∈ lw_all := lw_g (lw_at lw_m7 44 rfl) rfl
theorem q1605 : (Jvm.Cond.fieldLink "MouldVotesModel" (62 : Nat) "MouldVotesModel" "tested" "[Z") ∈ lw_all := lw_g (lw_at lw_m7 45 rfl) rfl
theorem q1606 : (Jvm.Cond.fieldLink "MouldVotesModel" (66 : Nat) "MouldVotesModel" "isCell" "[Z") ∈ lw_all := lw_g (lw_at lw_m7 46 rfl) rfl
theorem q1607 : (Jvm.Cond.fieldLink "MouldVotesModel" (69 : Nat) "MouldVotesModel" "rows" "[I") ∈ lw_all := lw_g (lw_at lw_m7 47 rfl) rfl
theorem q1608 : (Jvm.Cond.fieldLink "MouldVotesModel" (72 : Nat) "MouldVotesModel" "ahead" "[I") ∈ lw_all := lw_g (lw_at lw_m7 48 rfl) rfl
theorem q1609 : (Jvm.Cond.fieldLink "MouldVotesModel" (307 : Nat) "MouldVotesModel" "acts" "I") ∈ lw_all := lw_g (lw_at lw_m7 49 rfl) rfl
theorem q1610 : (Jvm.Cond.fieldLink "MouldVotesModel" (75 : Nat) "MouldVotesModel" "told" "[I") ∈ lw_all := lw_g (lw_at lw_m7 50 rfl) rfl
theorem q1611 : (Jvm.Cond.fieldLink "MouldVotesModel" (78 : Nat) "MouldVotesModel" "pile" "[I") ∈ lw_all := lw_g (lw_at lw_m7 51 rfl) rfl
theorem q1612 : (Jvm.Cond.fieldLink "MouldVotesModel" (81 : Nat) "MouldVotesModel" "becomes" "[I") ∈ lw_all := lw_g (lw_at lw_m7 52 rfl) rfl
theorem q1613 : (Jvm.Cond.fieldLink "MouldVotesModel" (84 : Nat) "MouldVotesModel" "kindsWere" "[I") ∈ lw_all := lw_g (lw_at lw_m7 53 rfl) rfl
theorem q1614 : (Jvm.Cond.fieldLink "MouldVotesModel" (87 : Nat) "MouldVotesModel" "voter" "[I") ∈ lw_all := lw_g (lw_at lw_m7 54 rfl) rfl
theorem q1615 : (Jvm.Cond.fieldLink "MouldVotesModel" (90 : Nat) "MouldVotesModel" "steps" "[I") ∈ lw_all := lw_g (lw_at lw_m7 55 rfl) rfl
theorem q1616 : (Jvm.Cond.fieldLink "MouldVotesModel" (310 : Nat) "MouldVotesModel" "seenMany" "I") ∈ lw_all := lw_g (lw_at lw_m7 56 rfl) rfl
theorem q1617 : (Jvm.Cond.fieldLink "MouldVotesModel" (93 : Nat) "MouldVotesModel" "seen" "[I") ∈ lw_all := lw_g (lw_at lw_m7 57 rfl) rfl
theorem q1618 : (Jvm.Cond.fieldLink "MouldVotesModel" (96 : Nat) "MouldVotesModel" "soon" "[I") ∈ lw_all := lw_g (lw_at lw_m7 58 rfl) rfl
theorem q1619 : (Jvm.Cond.fieldLink "MouldVotesModel" (99 : Nat) "MouldVotesModel" "soonAll" "[I") ∈ lw_all := lw_g (lw_at lw_m7 59 rfl) rfl
theorem q1620 : (Jvm.Cond.fieldLink "MouldVotesModel" (447 : Nat) "MouldVotesModel" "its" "I") ∈ lw_all := lw_g (lw_at lw_m7 60 rfl) rfl
theorem q1621 : (Jvm.Cond.fieldLink "MouldVotesModel" (313 : Nat) "MouldVotesModel" "hasImage" "Z") ∈ lw_all := lw_g (lw_at lw_m7 61 rfl) rfl
theorem q1622 : (Jvm.Cond.fieldLink "MouldVotesModel" (460 : Nat) "MouldVotesModel" "imageActs" "I") ∈ lw_all := lw_g (lw_at lw_m7 62 rfl) rfl
theorem q1623 : (Jvm.Cond.fieldLink "MouldVotesModel" (463 : Nat) "MouldVotesModel" "imageSeen" "I") ∈ lw_all := lw_g (lw_at lw_m7 63 rfl) rfl
theorem q1624 : (Jvm.Cond.fieldLink "MouldVotesModel" (102 : Nat) "MouldVotesModel" "imageRow" "[I") ∈ lw_all := lw_g (lw_at lw_m7 64 rfl) rfl
theorem q1625 : (Jvm.Cond.fieldLink "MouldVotesModel" (105 : Nat) "MouldVotesModel" "imageAhead" "[I") ∈ lw_all := lw_g (lw_at lw_m7 65 rfl) rfl
theorem q1626 : (Jvm.Cond.fieldLink "MouldVotesModel" (108 : Nat) "MouldVotesModel" "imageSees" "[I") ∈ lw_all := lw_g (lw_at lw_m7 66 rfl) rfl
theorem q1627 : (Jvm.Cond.lays "MouldVotesModel" "MouldVotesModel" "thrown" "I") ∈ lw_all := lw_g (lw_at lw_m7 67 rfl) rfl
theorem q1628 : (Jvm.Cond.soleField "MouldVotesModel" "thrown") ∈ lw_all := lw_g (lw_at lw_m7 68 rfl) rfl
theorem q1629 : (Jvm.Cond.lays "MouldVotesModel" "MouldVotesModel" "wide" "I") ∈ lw_all := lw_g (lw_at lw_m7 69 rfl) rfl
theorem q1630 : (Jvm.Cond.soleField "MouldVotesModel" "wide") ∈ lw_all := lw_g (lw_at lw_m7 70 rfl) rfl
theorem q1631 : (Jvm.Cond.lays "MouldVotesModel" "MouldVotesModel" "high" "I") ∈ lw_all := lw_g (lw_at lw_m7 71 rfl) rfl
theorem q1632 : (Jvm.Cond.soleField "MouldVotesModel" "high") ∈ lw_all := lw_g (lw_at lw_m7 72 rfl) rfl
theorem q1633 : (Jvm.Cond.lays "MouldVotesModel" "MouldVotesModel" "kinds" "I") ∈ lw_all := lw_g (lw_at lw_m7 73 rfl) rfl
theorem q1634 : (Jvm.Cond.soleField "MouldVotesModel" "kinds") ∈ lw_all := lw_g (lw_at lw_m7 74 rfl) rfl
theorem q1635 : (Jvm.Cond.lays "MouldVotesModel" "MouldVotesModel" "numbers" "I") ∈ lw_all := lw_g (lw_at lw_m7 75 rfl) rfl
theorem q1636 : (Jvm.Cond.soleField "MouldVotesModel" "numbers") ∈ lw_all := lw_g (lw_at lw_m7 76 rfl) rfl
theorem q1637 : (Jvm.Cond.lays "MouldVotesModel" "MouldVotesModel" "age" "I") ∈ lw_all := lw_g (lw_at lw_m7 77 rfl) rfl
theorem q1638 : (Jvm.Cond.soleField "MouldVotesModel" "age") ∈ lw_all := lw_g (lw_at lw_m7 78 rfl) rfl
theorem q1639 : (Jvm.Cond.lays "MouldVotesModel" "MouldVotesModel" "spores" "I") ∈ lw_all := lw_g (lw_at lw_m7 79 rfl) rfl
theorem q1640 : (Jvm.Cond.soleField "MouldVotesModel" "spores") ∈ lw_all := lw_g (lw_at lw_m7 80 rfl) rfl
theorem q1641 : (Jvm.Cond.lays "MouldVotesModel" "MouldVotesModel" "growsAt" "I") ∈ lw_all := lw_g (lw_at lw_m7 81 rfl) rfl
theorem q1642 : (Jvm.Cond.soleField "MouldVotesModel" "growsAt") ∈ lw_all := lw_g (lw_at lw_m7 82 rfl) rfl
theorem q1643 : (Jvm.Cond.lays "MouldVotesModel" "MouldVotesModel" "beatsAt" "I") ∈ lw_all := lw_g (lw_at lw_m7 83 rfl) rfl
theorem q1644 : (Jvm.Cond.soleField "MouldVotesModel" "beatsAt") ∈ lw_all := lw_g (lw_at lw_m7 84 rfl) rfl
theorem q1645 : (Jvm.Cond.laysFinal "MouldVotesModel" "MouldVotesModel" "partyOf" "[I") ∈ lw_all := lw_g (lw_at lw_m7 85 rfl) rfl
theorem q1646 : (Jvm.Cond.soleField "MouldVotesModel" "partyOf") ∈ lw_all := lw_g (lw_at lw_m7 86 rfl) rfl
theorem q1647 : (Jvm.Cond.laysFinal "MouldVotesModel" "MouldVotesModel" "warmth" "[I") ∈ lw_all := lw_g (lw_at lw_m7 87 rfl) rfl
theorem q1648 : (Jvm.Cond.soleField "MouldVotesModel" "warmth") ∈ lw_all := lw_g (lw_at lw_m7 88 rfl) rfl
theorem q1649 : (Jvm.Cond.laysFinal "MouldVotesModel" "MouldVotesModel" "code" "[I") ∈ lw_all := lw_g (lw_at lw_m7 89 rfl) rfl
theorem q1650 : (Jvm.Cond.soleField "MouldVotesModel" "code") ∈ lw_all := lw_g (lw_at lw_m7 90 rfl) rfl
theorem q1651 : (Jvm.Cond.laysFinal "MouldVotesModel" "MouldVotesModel" "tape" "[I") ∈ lw_all := lw_g (lw_at lw_m7 91 rfl) rfl
theorem q1652 : (Jvm.Cond.soleField "MouldVotesModel" "tape") ∈ lw_all := lw_g (lw_at lw_m7 92 rfl) rfl
theorem q1653 : (Jvm.Cond.lays "MouldVotesModel" "MouldVotesModel" "taped" "I") ∈ lw_all := lw_g (lw_at lw_m7 93 rfl) rfl
theorem q1654 : (Jvm.Cond.soleField "MouldVotesModel" "taped") ∈ lw_all := lw_g (lw_at lw_m7 94 rfl) rfl
theorem q1655 : (Jvm.Cond.lays "MouldVotesModel" "MouldVotesModel" "faultKind" "I") ∈ lw_all := lw_g (lw_at lw_m7 95 rfl) rfl
theorem q1656 : (Jvm.Cond.soleField "MouldVotesModel" "faultKind") ∈ lw_all := lw_g (lw_at lw_m7 96 rfl) rfl
theorem q1657 : (Jvm.Cond.lays "MouldVotesModel" "MouldVotesModel" "faultPlace" "I") ∈ lw_all := lw_g (lw_at lw_m7 97 rfl) rfl
theorem q1658 : (Jvm.Cond.soleField "MouldVotesModel" "faultPlace") ∈ lw_all := lw_g (lw_at lw_m7 98 rfl) rfl
theorem q1659 : (Jvm.Cond.laysFinal "MouldVotesModel" "MouldVotesModel" "refused" "[I") ∈ lw_all := lw_g (lw_at lw_m7 99 rfl) rfl
theorem q1660 : (Jvm.Cond.soleField "MouldVotesModel" "refused") ∈ lw_all := lw_g (lw_at lw_m7 100 rfl) rfl
theorem q1661 : (Jvm.Cond.lays "MouldVotesModel" "MouldVotesModel" "long1" "I") ∈ lw_all := lw_g (lw_at lw_m7 101 rfl) rfl
theorem q1662 : (Jvm.Cond.soleField "MouldVotesModel" "long1") ∈ lw_all := lw_g (lw_at lw_m7 102 rfl) rfl
theorem q1663 : (Jvm.Cond.lays "MouldVotesModel" "MouldVotesModel" "next0" "I") ∈ lw_all := lw_g (lw_at lw_m7 103 rfl) rfl
theorem q1664 : (Jvm.Cond.soleField "MouldVotesModel" "next0") ∈ lw_all := lw_g (lw_at lw_m7 104 rfl) rfl
theorem q1665 : (Jvm.Cond.lays "MouldVotesModel" "MouldVotesModel" "sort" "I") ∈ lw_all := lw_g (lw_at lw_m7 105 rfl) rfl
theorem q1666 : (Jvm.Cond.soleField "MouldVotesModel" "sort") ∈ lw_all := lw_g (lw_at lw_m7 106 rfl) rfl
theorem q1667 : (Jvm.Cond.lays "MouldVotesModel" "MouldVotesModel" "place" "I") ∈ lw_all := lw_g (lw_at lw_m7 107 rfl) rfl
theorem q1668 : (Jvm.Cond.soleField "MouldVotesModel" "place") ∈ lw_all := lw_g (lw_at lw_m7 108 rfl) rfl
theorem q1669 : (Jvm.Cond.lays "MouldVotesModel" "MouldVotesModel" "long0" "I") ∈ lw_all := lw_g (lw_at lw_m7 109 rfl) rfl
theorem q1670 : (Jvm.Cond.soleField "MouldVotesModel" "long0") ∈ lw_all := lw_g (lw_at lw_m7 110 rfl) rfl
theorem q1671 : (Jvm.Cond.lays "MouldVotesModel" "MouldVotesModel" "value" "I") ∈ lw_all := lw_g (lw_at lw_m7 111 rfl) rfl
theorem q1672 : (Jvm.Cond.soleField "MouldVotesModel" "value") ∈ lw_all := lw_g (lw_at lw_m7 112 rfl) rfl
theorem q1673 : (Jvm.Cond.lays "MouldVotesModel" "MouldVotesModel" "sign" "I") ∈ lw_all := lw_g (lw_at lw_m7 113 rfl) rfl
theorem q1674 : (Jvm.Cond.soleField "MouldVotesModel" "sign") ∈ lw_all := lw_g (lw_at lw_m7 114 rfl) rfl
theorem q1675 : (Jvm.Cond.lays "MouldVotesModel" "MouldVotesModel" "word" "J") ∈ lw_all := lw_g (lw_at lw_m7 115 rfl) rfl
theorem q1676 : (Jvm.Cond.soleField "MouldVotesModel" "word") ∈ lw_all := lw_g (lw_at lw_m7 116 rfl) rfl
theorem q1677 : (Jvm.Cond.lays "MouldVotesModel" "MouldVotesModel" "newWide" "I") ∈ lw_all := lw_g (lw_at lw_m7 117 rfl) rfl
theorem q1678 : (Jvm.Cond.soleField "MouldVotesModel" "newWide") ∈ lw_all := lw_g (lw_at lw_m7 118 rfl) rfl
theorem q1679 : (Jvm.Cond.lays "MouldVotesModel" "MouldVotesModel" "newHigh" "I") ∈ lw_all := lw_g (lw_at lw_m7 119 rfl) rfl
theorem q1680 : (Jvm.Cond.soleField "MouldVotesModel" "newHigh") ∈ lw_all := lw_g (lw_at lw_m7 120 rfl) rfl
theorem q1681 : (Jvm.Cond.lays "MouldVotesModel" "MouldVotesModel" "newKinds" "I") ∈ lw_all := lw_g (lw_at lw_m7 121 rfl) rfl
theorem q1682 : (Jvm.Cond.soleField "MouldVotesModel" "newKinds") ∈ lw_all := lw_g (lw_at lw_m7 122 rfl) rfl
theorem q1683 : (Jvm.Cond.lays "MouldVotesModel" "MouldVotesModel" "newNumbers" "I") ∈ lw_all := lw_g (lw_at lw_m7 123 rfl) rfl
theorem q1684 : (Jvm.Cond.soleField "MouldVotesModel" "newNumbers") ∈ lw_all := lw_g (lw_at lw_m7 124 rfl) rfl
theorem q1685 : (Jvm.Cond.lays "MouldVotesModel" "MouldVotesModel" "newAge" "I") ∈ lw_all := lw_g (lw_at lw_m7 125 rfl) rfl
theorem q1686 : (Jvm.Cond.soleField "MouldVotesModel" "newAge") ∈ lw_all := lw_g (lw_at lw_m7 126 rfl) rfl
theorem q1687 : (Jvm.Cond.lays "MouldVotesModel" "MouldVotesModel" "newSpores" "I") ∈ lw_all := lw_g (lw_at lw_m7 127 rfl) rfl
theorem q1688 : (Jvm.Cond.soleField "MouldVotesModel" "newSpores") ∈ lw_all := lw_g (lw_at lw_m7 128 rfl) rfl
theorem q1689 : (Jvm.Cond.lays "MouldVotesModel" "MouldVotesModel" "newGrowsAt" "I") ∈ lw_all := lw_g (lw_at lw_m7 129 rfl) rfl
theorem q1690 : (Jvm.Cond.soleField "MouldVotesModel" "newGrowsAt") ∈ lw_all := lw_g (lw_at lw_m7 130 rfl) rfl
theorem q1691 : (Jvm.Cond.lays "MouldVotesModel" "MouldVotesModel" "newBeatsAt" "I") ∈ lw_all := lw_g (lw_at lw_m7 131 rfl) rfl
theorem q1692 : (Jvm.Cond.soleField "MouldVotesModel" "newBeatsAt") ∈ lw_all := lw_g (lw_at lw_m7 132 rfl) rfl
theorem q1693 : (Jvm.Cond.lays "MouldVotesModel" "MouldVotesModel" "top" "I") ∈ lw_all := lw_g (lw_at lw_m7 133 rfl) rfl
theorem q1694 : (Jvm.Cond.soleField "MouldVotesModel" "top") ∈ lw_all := lw_g (lw_at lw_m7 134 rfl) rfl
theorem q1695 : (Jvm.Cond.lays "MouldVotesModel" "MouldVotesModel" "waiting" "I") ∈ lw_all := lw_g (lw_at lw_m7 135 rfl) rfl
theorem q1696 : (Jvm.Cond.soleField "MouldVotesModel" "waiting") ∈ lw_all := lw_g (lw_at lw_m7 136 rfl) rfl
theorem q1697 : (Jvm.Cond.lays "MouldVotesModel" "MouldVotesModel" "depth" "I") ∈ lw_all := lw_g (lw_at lw_m7 137 rfl) rfl
theorem q1698 : (Jvm.Cond.soleField "MouldVotesModel" "depth") ∈ lw_all := lw_g (lw_at lw_m7 138 rfl) rfl
theorem q1699 : (Jvm.Cond.lays "MouldVotesModel" "MouldVotesModel" "may" "I") ∈ lw_all := lw_g (lw_at lw_m7 139 rfl) rfl
theorem q1700 : (Jvm.Cond.soleField "MouldVotesModel" "may") ∈ lw_all := lw_g (lw_at lw_m7 140 rfl) rfl
theorem q1701 : (Jvm.Cond.laysFinal "MouldVotesModel" "MouldVotesModel" "newPartyOf" "[I") ∈ lw_all := lw_g (lw_at lw_m7 141 rfl) rfl
theorem q1702 : (Jvm.Cond.soleField "MouldVotesModel" "newPartyOf") ∈ lw_all := lw_g (lw_at lw_m7 142 rfl) rfl
theorem q1703 : (Jvm.Cond.laysFinal "MouldVotesModel" "MouldVotesModel" "newWarmth" "[I") ∈ lw_all := lw_g (lw_at lw_m7 143 rfl) rfl
theorem q1704 : (Jvm.Cond.soleField "MouldVotesModel" "newWarmth") ∈ lw_all := lw_g (lw_at lw_m7 144 rfl) rfl
theorem q1705 : (Jvm.Cond.laysFinal "MouldVotesModel" "MouldVotesModel" "newRow" "[I") ∈ lw_all := lw_g (lw_at lw_m7 145 rfl) rfl
theorem q1706 : (Jvm.Cond.soleField "MouldVotesModel" "newRow") ∈ lw_all := lw_g (lw_at lw_m7 146 rfl) rfl
theorem q1707 : (Jvm.Cond.laysFinal "MouldVotesModel" "MouldVotesModel" "readCode" "[I") ∈ lw_all := lw_g (lw_at lw_m7 147 rfl) rfl
theorem q1708 : (Jvm.Cond.soleField "MouldVotesModel" "readCode") ∈ lw_all := lw_g (lw_at lw_m7 148 rfl) rfl
theorem q1709 : (Jvm.Cond.laysFinal "MouldVotesModel" "MouldVotesModel" "waits" "[I") ∈ lw_all := lw_g (lw_at lw_m7 149 rfl) rfl
theorem q1710 : (Jvm.Cond.soleField "MouldVotesModel" "waits") ∈ lw_all := lw_g (lw_at lw_m7 150 rfl) rfl
theorem q1711 : (Jvm.Cond.laysFinal "MouldVotesModel" "MouldVotesModel" "tested" "[Z") ∈ lw_all := lw_g (lw_at lw_m7 151 rfl) rfl
theorem q1712 : (Jvm.Cond.soleField "MouldVotesModel" "tested") ∈ lw_all := lw_g (lw_at lw_m7 152 rfl) rfl
theorem q1713 : (Jvm.Cond.laysFinal "MouldVotesModel" "MouldVotesModel" "isCell" "[Z") ∈ lw_all := lw_g (lw_at lw_m7 153 rfl) rfl
theorem q1714 : (Jvm.Cond.soleField "MouldVotesModel" "isCell") ∈ lw_all := lw_g (lw_at lw_m7 154 rfl) rfl
theorem q1715 : (Jvm.Cond.laysFinal "MouldVotesModel" "MouldVotesModel" "rows" "[I") ∈ lw_all := lw_g (lw_at lw_m7 155 rfl) rfl
theorem q1716 : (Jvm.Cond.soleField "MouldVotesModel" "rows") ∈ lw_all := lw_g (lw_at lw_m7 156 rfl) rfl
theorem q1717 : (Jvm.Cond.laysFinal "MouldVotesModel" "MouldVotesModel" "ahead" "[I") ∈ lw_all := lw_g (lw_at lw_m7 157 rfl) rfl
theorem q1718 : (Jvm.Cond.soleField "MouldVotesModel" "ahead") ∈ lw_all := lw_g (lw_at lw_m7 158 rfl) rfl
theorem q1719 : (Jvm.Cond.lays "MouldVotesModel" "MouldVotesModel" "acts" "I") ∈ lw_all := lw_g (lw_at lw_m7 159 rfl) rfl
theorem q1720 : (Jvm.Cond.soleField "MouldVotesModel" "acts") ∈ lw_all := lw_g (lw_at lw_m7 160 rfl) rfl
theorem q1721 : (Jvm.Cond.laysFinal "MouldVotesModel" "MouldVotesModel" "told" "[I") ∈ lw_all := lw_g (lw_at lw_m7 161 rfl) rfl
theorem q1722 : (Jvm.Cond.soleField "MouldVotesModel" "told") ∈ lw_all := lw_g (lw_at lw_m7 162 rfl) rfl
theorem q1723 : (Jvm.Cond.laysFinal "MouldVotesModel" "MouldVotesModel" "pile" "[I") ∈ lw_all := lw_g (lw_at lw_m7 163 rfl) rfl
theorem q1724 : (Jvm.Cond.soleField "MouldVotesModel" "pile") ∈ lw_all := lw_g (lw_at lw_m7 164 rfl) rfl
theorem q1725 : (Jvm.Cond.laysFinal "MouldVotesModel" "MouldVotesModel" "becomes" "[I") ∈ lw_all := lw_g (lw_at lw_m7 165 rfl) rfl
theorem q1726 : (Jvm.Cond.soleField "MouldVotesModel" "becomes") ∈ lw_all := lw_g (lw_at lw_m7 166 rfl) rfl
theorem q1727 : (Jvm.Cond.laysFinal "MouldVotesModel" "MouldVotesModel" "kindsWere" "[I") ∈ lw_all := lw_g (lw_at lw_m7 167 rfl) rfl
theorem q1728 : (Jvm.Cond.soleField "MouldVotesModel" "kindsWere") ∈ lw_all := lw_g (lw_at lw_m7 168 rfl) rfl
theorem q1729 : (Jvm.Cond.laysFinal "MouldVotesModel" "MouldVotesModel" "voter" "[I") ∈ lw_all := lw_g (lw_at lw_m7 169 rfl) rfl
theorem q1730 : (Jvm.Cond.soleField "MouldVotesModel" "voter") ∈ lw_all := lw_g (lw_at lw_m7 170 rfl) rfl
theorem q1731 : (Jvm.Cond.laysFinal "MouldVotesModel" "MouldVotesModel" "steps" "[I") ∈ lw_all := lw_g (lw_at lw_m7 171 rfl) rfl
theorem q1732 : (Jvm.Cond.soleField "MouldVotesModel" "steps") ∈ lw_all := lw_g (lw_at lw_m7 172 rfl) rfl
theorem q1733 : (Jvm.Cond.lays "MouldVotesModel" "MouldVotesModel" "seenMany" "I") ∈ lw_all := lw_g (lw_at lw_m7 173 rfl) rfl
theorem q1734 : (Jvm.Cond.soleField "MouldVotesModel" "seenMany") ∈ lw_all := lw_g (lw_at lw_m7 174 rfl) rfl
theorem q1735 : (Jvm.Cond.laysFinal "MouldVotesModel" "MouldVotesModel" "seen" "[I") ∈ lw_all := lw_g (lw_at lw_m7 175 rfl) rfl
theorem q1736 : (Jvm.Cond.soleField "MouldVotesModel" "seen") ∈ lw_all := lw_g (lw_at lw_m7 176 rfl) rfl
theorem q1737 : (Jvm.Cond.laysFinal "MouldVotesModel" "MouldVotesModel" "soon" "[I") ∈ lw_all := lw_g (lw_at lw_m7 177 rfl) rfl
theorem q1738 : (Jvm.Cond.soleField "MouldVotesModel" "soon") ∈ lw_all := lw_g (lw_at lw_m7 178 rfl) rfl
theorem q1739 : (Jvm.Cond.laysFinal "MouldVotesModel" "MouldVotesModel" "soonAll" "[I") ∈ lw_all := lw_g (lw_at lw_m7 179 rfl) rfl
theorem q1740 : (Jvm.Cond.soleField "MouldVotesModel" "soonAll") ∈ lw_all := lw_g (lw_at lw_m7 180 rfl) rfl
theorem q1741 : (Jvm.Cond.lays "MouldVotesModel" "MouldVotesModel" "its" "I") ∈ lw_all := lw_g (lw_at lw_m7 181 rfl) rfl
theorem q1742 : (Jvm.Cond.soleField "MouldVotesModel" "its") ∈ lw_all := lw_g (lw_at lw_m7 182 rfl) rfl
theorem q1743 : (Jvm.Cond.lays "MouldVotesModel" "MouldVotesModel" "hasImage" "Z") ∈ lw_all := lw_g (lw_at lw_m7 183 rfl) rfl
theorem q1744 : (Jvm.Cond.soleField "MouldVotesModel" "hasImage") ∈ lw_all := lw_g (lw_at lw_m7 184 rfl) rfl
theorem q1745 : (Jvm.Cond.lays "MouldVotesModel" "MouldVotesModel" "imageActs" "I") ∈ lw_all := lw_g (lw_at lw_m7 185 rfl) rfl
theorem q1746 : (Jvm.Cond.soleField "MouldVotesModel" "imageActs") ∈ lw_all := lw_g (lw_at lw_m7 186 rfl) rfl
theorem q1747 : (Jvm.Cond.lays "MouldVotesModel" "MouldVotesModel" "imageSeen" "I") ∈ lw_all := lw_g (lw_at lw_m7 187 rfl) rfl
theorem q1748 : (Jvm.Cond.soleField "MouldVotesModel" "imageSeen") ∈ lw_all := lw_g (lw_at lw_m7 188 rfl) rfl
theorem q1749 : (Jvm.Cond.laysFinal "MouldVotesModel" "MouldVotesModel" "imageRow" "[I") ∈ lw_all := lw_g (lw_at lw_m7 189 rfl) rfl
theorem q1750 : (Jvm.Cond.soleField "MouldVotesModel" "imageRow") ∈ lw_all := lw_g (lw_at lw_m7 190 rfl) rfl
theorem q1751 : (Jvm.Cond.laysFinal "MouldVotesModel" "MouldVotesModel" "imageAhead" "[I") ∈ lw_all := lw_g (lw_at lw_m7 191 rfl) rfl
theorem q1752 : (Jvm.Cond.soleField "MouldVotesModel" "imageAhead") ∈ lw_all := lw_g (lw_at lw_m7 192 rfl) rfl
theorem q1753 : (Jvm.Cond.laysFinal "MouldVotesModel" "MouldVotesModel" "imageSees" "[I") ∈ lw_all := lw_g (lw_at lw_m7 193 rfl) rfl
theorem q1754 : (Jvm.Cond.soleField "MouldVotesModel" "imageSees") ∈ lw_all := lw_g (lw_at lw_m7 194 rfl) rfl
theorem q1755 : (Jvm.Cond.superclass "MouldVotesModel" "java/lang/Object") ∈ lw_all := lw_g (lw_at lw_m7 195 rfl) rfl
theorem q1758 : (Jvm.Cond.instanceMethod ({ cls := "MouldVotesModel", name := "thrown", desc := "()I" } : Jvm.MethodName)) ∈ lw_all := lw_g (lw_at lw_m7 198 rfl) rfl
theorem q1759 : (Jvm.Cond.selects "MouldVotesModel" ({ cls := "MouldVotesModel", name := "thrown", desc := "()I" } : Jvm.MethodName) ({ cls := "MouldVotesModel", name := "thrown", desc := "()I" } : Jvm.MethodName)) ∈ lw_all := lw_g (lw_at lw_m7 199 rfl) rfl
theorem q1760 : (Jvm.Cond.code ({ cls := "MouldVotesModel", name := "thrown", desc := "()I" } : Jvm.MethodName) prog_12_method_3_code (1 : Nat) (Option.some Jvm.ClassFile.FieldType.int)) ∈ lw_all := lw_g (lw_at lw_m7 200 rfl) rfl
theorem q1762 : (Jvm.Cond.instanceMethod ({ cls := "MouldVotesModel", name := "feed", desc := "(IIIII)I" } : Jvm.MethodName)) ∈ lw_all := lw_g (lw_at lw_m7 202 rfl) rfl
theorem q1763 : (Jvm.Cond.selects "MouldVotesModel" ({ cls := "MouldVotesModel", name := "feed", desc := "(IIIII)I" } : Jvm.MethodName) ({ cls := "MouldVotesModel", name := "feed", desc := "(IIIII)I" } : Jvm.MethodName)) ∈ lw_all := lw_g (lw_at lw_m7 203 rfl) rfl
theorem q1764 : (Jvm.Cond.code ({ cls := "MouldVotesModel", name := "feed", desc := "(IIIII)I" } : Jvm.MethodName) prog_12_method_10_code (6 : Nat) (Option.some Jvm.ClassFile.FieldType.int)) ∈ lw_all := lw_g (lw_at lw_m7 204 rfl) rfl
theorem q1765 : (Jvm.Cond.methodLink "MouldVotesModel" (121 : Nat) ({ cls := "MouldVotesModel", name := "lays", desc := "(I)V" } : Jvm.MethodName)) ∈ lw_all := lw_g (lw_at lw_m7 205 rfl) rfl
theorem q1766 : (Jvm.Cond.privateMethod ({ cls := "MouldVotesModel", name := "lays", desc := "(I)V" } : Jvm.MethodName)) ∈ lw_tbl := lw_at lw_m7 206 rfl
theorem q1767 : (Jvm.Cond.instanceMethod ({ cls := "MouldVotesModel", name := "lays", desc := "(I)V" } : Jvm.MethodName)) ∈ lw_all := lw_g (lw_at lw_m7 207 rfl) rfl
theorem q1768 : (Jvm.Cond.code ({ cls := "MouldVotesModel", name := "lays", desc := "(I)V" } : Jvm.MethodName) prog_12_method_11_code (3 : Nat) (Option.none : Option Jvm.ClassFile.FieldType)) ∈ lw_all := lw_g (lw_at lw_m7 208 rfl) rfl
theorem q1770 : (Jvm.Cond.instanceMethod ({ cls := "MouldVotesModel", name := "roll", desc := "(I)I" } : Jvm.MethodName)) ∈ lw_all := lw_g (lw_at lw_m7 210 rfl) rfl
theorem q1771 : (Jvm.Cond.selects "MouldVotesModel" ({ cls := "MouldVotesModel", name := "roll", desc := "(I)I" } : Jvm.MethodName) ({ cls := "MouldVotesModel", name := "roll", desc := "(I)I" } : Jvm.MethodName)) ∈ lw_all := lw_g (lw_at lw_m7 211 rfl) rfl
theorem q1772 : (Jvm.Cond.code ({ cls := "MouldVotesModel", name := "roll", desc := "(I)I" } : Jvm.MethodName) prog_12_method_43_code (3 : Nat) (Option.some Jvm.ClassFile.FieldType.int)) ∈ lw_all := lw_g (lw_at lw_m7 212 rfl) rfl
theorem q1773 : (Jvm.Cond.methodLink "MouldVotesModel" (290 : Nat) ({ cls := "MouldVotesModel", name := "right", desc := "(ZI)Z" } : Jvm.MethodName)) ∈ lw_all := lw_g (lw_at lw_m7 213 rfl) rfl
theorem q1774 : (Jvm.Cond.privateMethod ({ cls := "MouldVotesModel", name := "right", desc := "(ZI)Z" } : Jvm.MethodName)) ∈ lw_tbl := lw_at lw_m7 214 rfl
theorem q1775 : (Jvm.Cond.instanceMethod ({ cls := "MouldVotesModel", name := "right", desc := "(ZI)Z" } : Jvm.MethodName)) ∈ lw_all := lw_g (lw_at lw_m7 215 rfl) rfl
theorem q1776 : (Jvm.Cond.code ({ cls := "MouldVotesModel", name := "right", desc := "(ZI)Z" } : Jvm.MethodName) prog_12_method_4_code (3 : Nat) (Option.some Jvm.ClassFile.FieldType.boolean)) ∈ lw_all := lw_g (lw_at lw_m7 216 rfl) rfl
theorem q1777 : (Jvm.Cond.methodLink "MouldVotesModel" (178 : Nat) ({ cls := "MouldVotesModel", name := "goes", desc := "()V" } : Jvm.MethodName)) ∈ lw_all := lw_g (lw_at lw_m7 217 rfl) rfl
theorem q1778 : (Jvm.Cond.privateMethod ({ cls := "MouldVotesModel", name := "goes", desc := "()V" } : Jvm.MethodName)) ∈ lw_tbl := lw_at lw_m7 218 rfl
theorem q1779 : (Jvm.Cond.instanceMethod ({ cls := "MouldVotesModel", name := "goes", desc := "()V" } : Jvm.MethodName)) ∈ lw_all := lw_g (lw_at lw_m7 219 rfl) rfl
theorem q1780 : (Jvm.Cond.code ({ cls := "MouldVotesModel", name := "goes", desc := "()V" } : Jvm.MethodName) prog_12_method_15_code (2 : Nat) (Option.none : Option Jvm.ClassFile.FieldType)) ∈ lw_all := lw_g (lw_at lw_m7 220 rfl) rfl
theorem q1781 : (Jvm.Cond.methodLink "MouldVotesModel" (131 : Nat) ({ cls := "MouldVotesModel", name := "byteAt", desc := "(I)I" } : Jvm.MethodName)) ∈ lw_all := lw_g (lw_at lw_m7 221 rfl) rfl
theorem q1782 : (Jvm.Cond.privateMethod ({ cls := "MouldVotesModel", name := "byteAt", desc := "(I)I" } : Jvm.MethodName)) ∈ lw_tbl := lw_at lw_m7 222 rfl
theorem q1783 : (Jvm.Cond.instanceMethod ({ cls := "MouldVotesModel", name := "byteAt", desc := "(I)I" } : Jvm.MethodName)) ∈ lw_all := lw_g (lw_at lw_m7 223 rfl) rfl
theorem q1784 : (Jvm.Cond.code ({ cls := "MouldVotesModel", name := "byteAt", desc := "(I)I" } : Jvm.MethodName) prog_12_method_12_code (2 : Nat) (Option.some Jvm.ClassFile.FieldType.int)) ∈ lw_all := lw_g (lw_at lw_m7 224 rfl) rfl
theorem q1785 : (Jvm.Cond.methodLink "MouldVotesModel" (151 : Nat) ({ cls := "MouldVotesModel", name := "isLetter", desc := "(I)Z" } : Jvm.MethodName)) ∈ lw_all := lw_g (lw_at lw_m7 225 rfl) rfl
theorem q1786 : (Jvm.Cond.static ({ cls := "MouldVotesModel", name := "isLetter", desc := "(I)Z" } : Jvm.MethodName)) ∈ lw_all := lw_g (lw_at lw_m7 226 rfl) rfl
theorem q1787 : (Jvm.Cond.code ({ cls := "MouldVotesModel", name := "isLetter", desc := "(I)Z" } : Jvm.MethodName) prog_12_method_13_code (1 : Nat) (Option.some Jvm.ClassFile.FieldType.boolean)) ∈ lw_all := lw_g (lw_at lw_m7 227 rfl) rfl
theorem q1788 : (Jvm.Cond.methodLink "MouldVotesModel" (155 : Nat) ({ cls := "MouldVotesModel", name := "isDigit", desc := "(I)Z" } : Jvm.MethodName)) ∈ lw_all := lw_g (lw_at lw_m7 228 rfl) rfl
theorem q1789 : (Jvm.Cond.static ({ cls := "MouldVotesModel", name := "isDigit", desc := "(I)Z" } : Jvm.MethodName)) ∈ lw_all := lw_g (lw_at lw_m7 229 rfl) rfl
theorem q1790 : (Jvm.Cond.code ({ cls := "MouldVotesModel", name := "isDigit", desc := "(I)Z" } : Jvm.MethodName) prog_12_method_14_code (1 : Nat) (Option.some Jvm.ClassFile.FieldType.boolean)) ∈ lw_all := lw_g (lw_at lw_m7 230 rfl) rfl
theorem q1791 : (Jvm.Cond.methodLink "MouldVotesModel" (174 : Nat) ({ cls := "MouldVotesModel", name := "isGood", desc := "()Z" } : Jvm.MethodName)) ∈ lw_all := lw_g (lw_at lw_m7 231 rfl) rfl
theorem q1792 : (Jvm.Cond.privateMethod ({ cls := "MouldVotesModel", name := "isGood", desc := "()Z" } : Jvm.MethodName)) ∈ lw_tbl := lw_at lw_m7 232 rfl
theorem q1793 : (Jvm.Cond.instanceMethod ({ cls := "MouldVotesModel", name := "isGood", desc := "()Z" } : Jvm.MethodName)) ∈ lw_all := lw_g (lw_at lw_m7 233 rfl) rfl
theorem q1794 : (Jvm.Cond.code ({ cls := "MouldVotesModel", name := "isGood", desc := "()Z" } : Jvm.MethodName) prog_12_method_20_code (1 : Nat) (Option.some Jvm.ClassFile.FieldType.boolean)) ∈ lw_all := lw_g (lw_at lw_m7 234 rfl) rfl
theorem q1795 : (Jvm.Cond.methodLink "MouldVotesModel" (294 : Nat) ({ cls := "MouldVotesModel", name := "line", desc := "()V" } : Jvm.MethodName)) ∈ lw_all := lw_g (lw_at lw_m7 235 rfl) rfl
theorem q1796 : (Jvm.Cond.privateMethod ({ cls := "MouldVotesModel", name := "line", desc := "()V" } : Jvm.MethodName)) ∈ lw_tbl := lw_at lw_m7 236 rfl
theorem q1797 : (Jvm.Cond.instanceMethod ({ cls := "MouldVotesModel", name := "line", desc := "()V" } : Jvm.MethodName)) ∈ lw_all := lw_g (lw_at lw_m7 237 rfl) rfl
theorem q1798 : (Jvm.Cond.code ({ cls := "MouldVotesModel", name := "line", desc := "()V" } : Jvm.MethodName) prog_12_method_42_code (3 : Nat) (Option.none : Option Jvm.ClassFile.FieldType)) ∈ lw_all := lw_g (lw_at lw_m7 238 rfl) rfl
theorem q1799 : (Jvm.Cond.methodLink "MouldVotesModel" (199 : Nat) ({ cls := "MouldVotesModel", name := "knownWord", desc := "()I" } : Jvm.MethodName)) ∈ lw_all := lw_g (lw_at lw_m7 239 rfl) rfl
theorem q1800 : (Jvm.Cond.privateMethod ({ cls := "MouldVotesModel", name := "knownWord", desc := "()I" } : Jvm.MethodName)) ∈ lw_tbl := lw_at lw_m8 0 rfl
theorem q1801 : (Jvm.Cond.instanceMethod ({ cls := "MouldVotesModel", name := "knownWord", desc := "()I" } : Jvm.MethodName)) ∈ lw_all := lw_g (lw_at lw_m8 1 rfl) rfl
theorem q1802 : (Jvm.Cond.code ({ cls := "MouldVotesModel", name := "knownWord", desc := "()I" } : Jvm.MethodName) prog_12_method_18_code (2 : Nat) (Option.some Jvm.ClassFile.FieldType.int)) ∈ lw_all := lw_g (lw_at lw_m8 2 rfl) rfl
theorem q1803 : (Jvm.Cond.methodLink "MouldVotesModel" (167 : Nat) ({ cls := "MouldVotesModel", name := "letters", desc := "(I)J" } : Jvm.MethodName)) ∈ lw_all := lw_g (lw_at lw_m8 3 rfl) rfl
theorem q1804 : (Jvm.Cond.static ({ cls := "MouldVotesModel", name := "letters", desc := "(I)J" } : Jvm.MethodName)) ∈ lw_all := lw_g (lw_at lw_m8 4 rfl) rfl
theorem q1805 : (Jvm.Cond.code ({ cls := "MouldVotesModel", name := "letters", desc := "(I)J" } : Jvm.MethodName) prog_12_method_17_code (1 : Nat) (Option.some Jvm.ClassFile.FieldType.long)) ∈ lw_all := lw_g (lw_at lw_m8 5 rfl) rfl
theorem q1806 : (Jvm.Cond.methodLink "MouldVotesModel" (163 : Nat) ({ cls := "MouldVotesModel", name := "spelled", desc := "(IIIIIII)J" } : Jvm.MethodName)) ∈ lw_all := lw_g (lw_at lw_m8 6 rfl) rfl
theorem q1807 : (Jvm.Cond.static ({ cls := "MouldVotesModel", name := "spelled", desc := "(IIIIIII)J" } : Jvm.MethodName)) ∈ lw_all := lw_g (lw_at lw_m8 7 rfl) rfl
theorem q1808 : (Jvm.Cond.code ({ cls := "MouldVotesModel", name := "spelled", desc := "(IIIIIII)J" } : Jvm.MethodName) prog_12_method_16_code (9 : Nat) (Option.some Jvm.ClassFile.FieldType.long)) ∈ lw_all := lw_g (lw_at lw_m8 8 rfl) rfl
theorem q1809 : (Jvm.Cond.constantLong "MouldVotesModel" (161 : Nat) (96 : Int64)) ∈ lw_all := lw_g (lw_at lw_m8 9 rfl) rfl
theorem q1810 : (Jvm.Cond.methodLink "MouldVotesModel" (256 : Nat) ({ cls := "MouldVotesModel", name := "hasAny", desc := "()Z" } : Jvm.MethodName)) ∈ lw_all := lw_g (lw_at lw_m8 10 rfl) rfl
theorem q1811 : (Jvm.Cond.privateMethod ({ cls := "MouldVotesModel", name := "hasAny", desc := "()Z" } : Jvm.MethodName)) ∈ lw_tbl := lw_at lw_m8 11 rfl
theorem q1812 : (Jvm.Cond.instanceMethod ({ cls := "MouldVotesModel", name := "hasAny", desc := "()Z" } : Jvm.MethodName)) ∈ lw_all := lw_g (lw_at lw_m8 12 rfl) rfl
theorem q1813 : (Jvm.Cond.code ({ cls := "MouldVotesModel", name := "hasAny", desc := "()Z" } : Jvm.MethodName) prog_12_method_37_code (2 : Nat) (Option.some Jvm.ClassFile.FieldType.boolean)) ∈ lw_all := lw_g (lw_at lw_m8 13 rfl) rfl
theorem q1814 : (Jvm.Cond.methodLink "MouldVotesModel" (259 : Nat) ({ cls := "MouldVotesModel", name := "begins", desc := "(ZZZ)Z" } : Jvm.MethodName)) ∈ lw_all := lw_g (lw_at lw_m8 14 rfl) rfl
theorem q1815 : (Jvm.Cond.privateMethod ({ cls := "MouldVotesModel", name := "begins", desc := "(ZZZ)Z" } : Jvm.MethodName)) ∈ lw_tbl := lw_at lw_m8 15 rfl
theorem q1816 : (Jvm.Cond.instanceMethod ({ cls := "MouldVotesModel", name := "begins", desc := "(ZZZ)Z" } : Jvm.MethodName)) ∈ lw_all := lw_g (lw_at lw_m8 16 rfl) rfl
theorem q1817 : (Jvm.Cond.code ({ cls := "MouldVotesModel", name := "begins", desc := "(ZZZ)Z" } : Jvm.MethodName) prog_12_method_36_code (4 : Nat) (Option.some Jvm.ClassFile.FieldType.boolean)) ∈ lw_all := lw_g (lw_at lw_m8 17 rfl) rfl
theorem q1818 : (Jvm.Cond.methodLink "MouldVotesModel" (181 : Nat) ({ cls := "MouldVotesModel", name := "wrong", desc := "(I)V" } : Jvm.MethodName)) ∈ lw_all := lw_g (lw_at lw_m8 18 rfl) rfl
theorem q1819 : (Jvm.Cond.privateMethod ({ cls := "MouldVotesModel", name := "wrong", desc := "(I)V" } : Jvm.MethodName)) ∈ lw_tbl := lw_at lw_m8 19 rfl
theorem q1820 : (Jvm.Cond.instanceMethod ({ cls := "MouldVotesModel", name := "wrong", desc := "(I)V" } : Jvm.MethodName)) ∈ lw_all := lw_g (lw_at lw_m8 20 rfl) rfl
theorem q1821 : (Jvm.Cond.code ({ cls := "MouldVotesModel", name := "wrong", desc := "(I)V" } : Jvm.MethodName) prog_12_method_19_code (2 : Nat) (Option.none : Option Jvm.ClassFile.FieldType)) ∈ lw_all := lw_g (lw_at lw_m8 21 rfl) rfl
theorem q1822 : (Jvm.Cond.methodLink "MouldVotesModel" (246 : Nat) ({ cls := "MouldVotesModel", name := "number", desc := "(II)I" } : Jvm.MethodName)) ∈ lw_all := lw_g (lw_at lw_m8 22 rfl) rfl
theorem q1823 : (Jvm.Cond.privateMethod ({ cls := "MouldVotesModel", name := "number", desc := "(II)I" } : Jvm.MethodName)) ∈ lw_tbl := lw_at lw_m8 23 rfl
theorem q1824 : (Jvm.Cond.instanceMethod ({ cls := "MouldVotesModel", name := "number", desc := "(II)I" } : Jvm.MethodName)) ∈ lw_all := lw_g (lw_at lw_m8 24 rfl) rfl
theorem q1825 : (Jvm.Cond.code ({ cls := "MouldVotesModel", name := "number", desc := "(II)I" } : Jvm.MethodName) prog_12_method_23_code (4 : Nat) (Option.some Jvm.ClassFile.FieldType.int)) ∈ lw_all := lw_g (lw_at lw_m8 25 rfl) rfl
theorem q1826 : (Jvm.Cond.methodLink "MouldVotesModel" (263 : Nat) ({ cls := "MouldVotesModel", name := "readsCell", desc := "()V" } : Jvm.MethodName)) ∈ lw_all := lw_g (lw_at lw_m8 26 rfl) rfl
theorem q1827 : (Jvm.Cond.privateMethod ({ cls := "MouldVotesModel", name := "readsCell", desc := "()V" } : Jvm.MethodName)) ∈ lw_tbl := lw_at lw_m8 27 rfl
theorem q1828 : (Jvm.Cond.instanceMethod ({ cls := "MouldVotesModel", name := "readsCell", desc := "()V" } : Jvm.MethodName)) ∈ lw_all := lw_g (lw_at lw_m8 28 rfl) rfl
theorem q1829 : (Jvm.Cond.code ({ cls := "MouldVotesModel", name := "readsCell", desc := "()V" } : Jvm.MethodName) prog_12_method_39_code (2 : Nat) (Option.none : Option Jvm.ClassFile.FieldType)) ∈ lw_all := lw_g (lw_at lw_m8 29 rfl) rfl
theorem q1830 : (Jvm.Cond.methodLink "MouldVotesModel" (240 : Nat) ({ cls := "MouldVotesModel", name := "cellsNow", desc := "()I" } : Jvm.MethodName)) ∈ lw_all := lw_g (lw_at lw_m8 30 rfl) rfl
theorem q1831 : (Jvm.Cond.privateMethod ({ cls := "MouldVotesModel", name := "cellsNow", desc := "()I" } : Jvm.MethodName)) ∈ lw_tbl := lw_at lw_m8 31 rfl
theorem q1832 : (Jvm.Cond.instanceMethod ({ cls := "MouldVotesModel", name := "cellsNow", desc := "()I" } : Jvm.MethodName)) ∈ lw_all := lw_g (lw_at lw_m8 32 rfl) rfl
theorem q1833 : (Jvm.Cond.code ({ cls := "MouldVotesModel", name := "cellsNow", desc := "()I" } : Jvm.MethodName) prog_12_method_38_code (1 : Nat) (Option.some Jvm.ClassFile.FieldType.int)) ∈ lw_all := lw_g (lw_at lw_m8 33 rfl) rfl
theorem q1834 : (Jvm.Cond.methodLink "MouldVotesModel" (243 : Nat) ({ cls := "MouldVotesModel", name := "amongHere", desc := "(I)Z" } : Jvm.MethodName)) ∈ lw_all := lw_g (lw_at lw_m8 34 rfl) rfl
theorem q1835 : (Jvm.Cond.privateMethod ({ cls := "MouldVotesModel", name := "amongHere", desc := "(I)Z" } : Jvm.MethodName)) ∈ lw_tbl := lw_at lw_m8 35 rfl
theorem q1836 : (Jvm.Cond.instanceMethod ({ cls := "MouldVotesModel", name := "amongHere", desc := "(I)Z" } : Jvm.MethodName)) ∈ lw_all := lw_g (lw_at lw_m8 36 rfl) rfl
theorem q1837 : (Jvm.Cond.code ({ cls := "MouldVotesModel", name := "amongHere", desc := "(I)Z" } : Jvm.MethodName) prog_12_method_24_code (2 : Nat) (Option.some Jvm.ClassFile.FieldType.boolean)) ∈ lw_all := lw_g (lw_at lw_m8 37 rfl) rfl
theorem q1838 : (Jvm.Cond.methodLink "MouldVotesModel" (266 : Nat) ({ cls := "MouldVotesModel", name := "readsMould", desc := "()V" } : Jvm.MethodName)) ∈ lw_all := lw_g (lw_at lw_m8 38 rfl) rfl
theorem q1839 : (Jvm.Cond.privateMethod ({ cls := "MouldVotesModel", name := "readsMould", desc := "()V" } : Jvm.MethodName)) ∈ lw_tbl := lw_at lw_m8 39 rfl
theorem q1840 : (Jvm.Cond.instanceMethod ({ cls := "MouldVotesModel", name := "readsMould", desc := "()V" } : Jvm.MethodName)) ∈ lw_all := lw_g (lw_at lw_m8 40 rfl) rfl
theorem q1841 : (Jvm.Cond.code ({ cls := "MouldVotesModel", name := "readsMould", desc := "()V" } : Jvm.MethodName) prog_12_method_40_code (2 : Nat) (Option.none : Option Jvm.ClassFile.FieldType)) ∈ lw_all := lw_g (lw_at lw_m8 41 rfl) rfl
theorem q1842 : (Jvm.Cond.methodLink "MouldVotesModel" (269 : Nat) ({ cls := "MouldVotesModel", name := "readsWarmth", desc := "()V" } : Jvm.MethodName)) ∈ lw_all := lw_g (lw_at lw_m8 42 rfl) rfl
theorem q1843 : (Jvm.Cond.privateMethod ({ cls := "MouldVotesModel", name := "readsWarmth", desc := "()V" } : Jvm.MethodName)) ∈ lw_tbl := lw_at lw_m8 43 rfl
theorem q1844 : (Jvm.Cond.instanceMethod ({ cls := "MouldVotesModel", name := "readsWarmth", desc := "()V" } : Jvm.MethodName)) ∈ lw_all := lw_g (lw_at lw_m8 44 rfl) rfl
theorem q1845 : (Jvm.Cond.code ({ cls := "MouldVotesModel", name := "readsWarmth", desc := "()V" } : Jvm.MethodName) prog_12_method_41_code (3 : Nat) (Option.none : Option Jvm.ClassFile.FieldType)) ∈ lw_all := lw_g (lw_at lw_m8 45 rfl) rfl
theorem q1846 : (Jvm.Cond.methodLink "MouldVotesModel" (281 : Nat) ({ cls := "MouldVotesModel", name := "expression", desc := "(I)V" } : Jvm.MethodName)) ∈ lw_all := lw_g (lw_at lw_m8 46 rfl) rfl
theorem q1847 : (Jvm.Cond.privateMethod ({ cls := "MouldVotesModel", name := "expression", desc := "(I)V" } : Jvm.MethodName)) ∈ lw_tbl := lw_at lw_m8 47 rfl
theorem q1848 : (Jvm.Cond.instanceMethod ({ cls := "MouldVotesModel", name := "expression", desc := "(I)V" } : Jvm.MethodName)) ∈ lw_all := lw_g (lw_at lw_m8 48 rfl) rfl
theorem q1849 : (Jvm.Cond.code ({ cls := "MouldVotesModel", name := "expression", desc := "(I)V" } : Jvm.MethodName) prog_12_method_35_code (4 : Nat) (Option.none : Option Jvm.ClassFile.FieldType)) ∈ lw_all := lw_g (lw_at lw_m8 49 rfl) rfl
theorem q1850 : (Jvm.Cond.methodLink "MouldVotesModel" (215 : Nat) ({ cls := "MouldVotesModel", name := "deeper", desc := "()V" } : Jvm.MethodName)) ∈ lw_all := lw_g (lw_at lw_m8 50 rfl) rfl
theorem q1851 : (Jvm.Cond.privateMethod ({ cls := "MouldVotesModel", name := "deeper", desc := "()V" } : Jvm.MethodName)) ∈ lw_tbl := lw_at lw_m8 51 rfl
theorem q1852 : (Jvm.Cond.instanceMethod ({ cls := "MouldVotesModel", name := "deeper", desc := "()V" } : Jvm.MethodName)) ∈ lw_all := lw_g (lw_at lw_m8 52 rfl) rfl
theorem q1853 : (Jvm.Cond.code ({ cls := "MouldVotesModel", name := "deeper", desc := "()V" } : Jvm.MethodName) prog_12_method_31_code (1 : Nat) (Option.none : Option Jvm.ClassFile.FieldType)) ∈ lw_all := lw_g (lw_at lw_m8 53 rfl) rfl
theorem q1854 : (Jvm.Cond.methodLink "MouldVotesModel" (209 : Nat) ({ cls := "MouldVotesModel", name := "isSign", desc := "(I)Z" } : Jvm.MethodName)) ∈ lw_all := lw_g (lw_at lw_m8 54 rfl) rfl
theorem q1855 : (Jvm.Cond.privateMethod ({ cls := "MouldVotesModel", name := "isSign", desc := "(I)Z" } : Jvm.MethodName)) ∈ lw_tbl := lw_at lw_m8 55 rfl
theorem q1856 : (Jvm.Cond.instanceMethod ({ cls := "MouldVotesModel", name := "isSign", desc := "(I)Z" } : Jvm.MethodName)) ∈ lw_all := lw_g (lw_at lw_m8 56 rfl) rfl
theorem q1857 : (Jvm.Cond.code ({ cls := "MouldVotesModel", name := "isSign", desc := "(I)Z" } : Jvm.MethodName) prog_12_method_21_code (2 : Nat) (Option.some Jvm.ClassFile.FieldType.boolean)) ∈ lw_all := lw_g (lw_at lw_m8 57 rfl) rfl
theorem q1858 : (Jvm.Cond.methodLink "MouldVotesModel" (224 : Nat) ({ cls := "MouldVotesModel", name := "operand", desc := "(Z)V" } : Jvm.MethodName)) ∈ lw_all := lw_g (lw_at lw_m8 58 rfl) rfl
theorem q1859 : (Jvm.Cond.privateMethod ({ cls := "MouldVotesModel", name := "operand", desc := "(Z)V" } : Jvm.MethodName)) ∈ lw_tbl := lw_at lw_m8 59 rfl
theorem q1860 : (Jvm.Cond.instanceMethod ({ cls := "MouldVotesModel", name := "operand", desc := "(Z)V" } : Jvm.MethodName)) ∈ lw_all := lw_g (lw_at lw_m8 60 rfl) rfl
theorem q1861 : (Jvm.Cond.code ({ cls := "MouldVotesModel", name := "operand", desc := "(Z)V" } : Jvm.MethodName) prog_12_method_32_code (5 : Nat) (Option.none : Option Jvm.ClassFile.FieldType)) ∈ lw_all := lw_g (lw_at lw_m8 61 rfl) rfl
theorem q1862 : (Jvm.Cond.methodLink "MouldVotesModel" (212 : Nat) ({ cls := "MouldVotesModel", name := "waitsFor", desc := "(I)V" } : Jvm.MethodName)) ∈ lw_all := lw_g (lw_at lw_m8 62 rfl) rfl
theorem q1863 : (Jvm.Cond.privateMethod ({ cls := "MouldVotesModel", name := "waitsFor", desc := "(I)V" } : Jvm.MethodName)) ∈ lw_tbl := lw_at lw_m8 63 rfl
theorem q1864 : (Jvm.Cond.instanceMethod ({ cls := "MouldVotesModel", name := "waitsFor", desc := "(I)V" } : Jvm.MethodName)) ∈ lw_all := lw_g (lw_at lw_m8 64 rfl) rfl
theorem q1865 : (Jvm.Cond.code ({ cls := "MouldVotesModel", name := "waitsFor", desc := "(I)V" } : Jvm.MethodName) prog_12_method_29_code (2 : Nat) (Option.none : Option Jvm.ClassFile.FieldType)) ∈ lw_all := lw_g (lw_at lw_m8 65 rfl) rfl
theorem q1866 : (Jvm.Cond.methodLink "MouldVotesModel" (218 : Nat) ({ cls := "MouldVotesModel", name := "part", desc := "()V" } : Jvm.MethodName)) ∈ lw_all := lw_g (lw_at lw_m8 66 rfl) rfl
theorem q1867 : (Jvm.Cond.privateMethod ({ cls := "MouldVotesModel", name := "part", desc := "()V" } : Jvm.MethodName)) ∈ lw_tbl := lw_at lw_m8 67 rfl
theorem q1868 : (Jvm.Cond.instanceMethod ({ cls := "MouldVotesModel", name := "part", desc := "()V" } : Jvm.MethodName)) ∈ lw_all := lw_g (lw_at lw_m8 68 rfl) rfl
theorem q1869 : (Jvm.Cond.code ({ cls := "MouldVotesModel", name := "part", desc := "()V" } : Jvm.MethodName) prog_12_method_30_code (2 : Nat) (Option.none : Option Jvm.ClassFile.FieldType)) ∈ lw_all := lw_g (lw_at lw_m8 69 rfl) rfl
theorem q1870 : (Jvm.Cond.methodLink "MouldVotesModel" (196 : Nat) ({ cls := "MouldVotesModel", name := "puts", desc := "(I)V" } : Jvm.MethodName)) ∈ lw_all := lw_g (lw_at lw_m8 70 rfl) rfl
theorem q1871 : (Jvm.Cond.privateMethod ({ cls := "MouldVotesModel", name := "puts", desc := "(I)V" } : Jvm.MethodName)) ∈ lw_tbl := lw_at lw_m8 71 rfl
theorem q1872 : (Jvm.Cond.instanceMethod ({ cls := "MouldVotesModel", name := "puts", desc := "(I)V" } : Jvm.MethodName)) ∈ lw_all := lw_g (lw_at lw_m8 72 rfl) rfl
theorem q1873 : (Jvm.Cond.code ({ cls := "MouldVotesModel", name := "puts", desc := "(I)V" } : Jvm.MethodName) prog_12_method_25_code (2 : Nat) (Option.none : Option Jvm.ClassFile.FieldType)) ∈ lw_all := lw_g (lw_at lw_m8 73 rfl) rfl
theorem q1874 : (Jvm.Cond.methodLink "MouldVotesModel" (221 : Nat) ({ cls := "MouldVotesModel", name := "drops", desc := "(I)V" } : Jvm.MethodName)) ∈ lw_all := lw_g (lw_at lw_m8 74 rfl) rfl
theorem q1875 : (Jvm.Cond.privateMethod ({ cls := "MouldVotesModel", name := "drops", desc := "(I)V" } : Jvm.MethodName)) ∈ lw_tbl := lw_at lw_m8 75 rfl
theorem q1876 : (Jvm.Cond.instanceMethod ({ cls := "MouldVotesModel", name := "drops", desc := "(I)V" } : Jvm.MethodName)) ∈ lw_all := lw_g (lw_at lw_m8 76 rfl) rfl
theorem q1877 : (Jvm.Cond.code ({ cls := "MouldVotesModel", name := "drops", desc := "(I)V" } : Jvm.MethodName) prog_12_method_28_code (2 : Nat) (Option.none : Option Jvm.ClassFile.FieldType)) ∈ lw_all := lw_g (lw_at lw_m8 77 rfl) rfl
theorem q1878 : (Jvm.Cond.methodLink "MouldVotesModel" (190 : Nat) ({ cls := "MouldVotesModel", name := "isOpen", desc := "(I)Z" } : Jvm.MethodName)) ∈ lw_all := lw_g (lw_at lw_m8 78 rfl) rfl
theorem q1879 : (Jvm.Cond.static ({ cls := "MouldVotesModel", name := "isOpen", desc := "(I)Z" } : Jvm.MethodName)) ∈ lw_all := lw_g (lw_at lw_m8 79 rfl) rfl
theorem q1880 : (Jvm.Cond.code ({ cls := "MouldVotesModel", name := "isOpen", desc := "(I)Z" } : Jvm.MethodName) prog_12_method_26_code (1 : Nat) (Option.some Jvm.ClassFile.FieldType.boolean)) ∈ lw_all := lw_g (lw_at lw_m8 80 rfl) rfl
theorem q1881 : (Jvm.Cond.methodLink "MouldVotesModel" (193 : Nat) ({ cls := "MouldVotesModel", name := "strength", desc := "(I)I" } : Jvm.MethodName)) ∈ lw_all := lw_g (lw_at lw_m8 81 rfl) rfl
theorem q1882 : (Jvm.Cond.static ({ cls := "MouldVotesModel", name := "strength", desc := "(I)I" } : Jvm.MethodName)) ∈ lw_all := lw_g (lw_at lw_m8 82 rfl) rfl
theorem q1883 : (Jvm.Cond.code ({ cls := "MouldVotesModel", name := "strength", desc := "(I)I" } : Jvm.MethodName) prog_12_method_27_code (1 : Nat) (Option.some Jvm.ClassFile.FieldType.int)) ∈ lw_all := lw_g (lw_at lw_m8 83 rfl) rfl
theorem q1884 : (Jvm.Cond.methodLink "MouldVotesModel" (228 : Nat) ({ cls := "MouldVotesModel", name := "isOpened", desc := "()Z" } : Jvm.MethodName)) ∈ lw_all := lw_g (lw_at lw_m8 84 rfl) rfl
theorem q1885 : (Jvm.Cond.privateMethod ({ cls := "MouldVotesModel", name := "isOpened", desc := "()Z" } : Jvm.MethodName)) ∈ lw_tbl := lw_at lw_m8 85 rfl
theorem q1886 : (Jvm.Cond.instanceMethod ({ cls := "MouldVotesModel", name := "isOpened", desc := "()Z" } : Jvm.MethodName)) ∈ lw_all := lw_g (lw_at lw_m8 86 rfl) rfl
theorem q1887 : (Jvm.Cond.code ({ cls := "MouldVotesModel", name := "isOpened", desc := "()Z" } : Jvm.MethodName) prog_12_method_33_code (2 : Nat) (Option.some Jvm.ClassFile.FieldType.boolean)) ∈ lw_all := lw_g (lw_at lw_m8 87 rfl) rfl
theorem q1888 : (Jvm.Cond.methodLink "MouldVotesModel" (231 : Nat) ({ cls := "MouldVotesModel", name := "closes", desc := "()V" } : Jvm.MethodName)) ∈ lw_all := lw_g (lw_at lw_m8 88 rfl) rfl
theorem q1889 : (Jvm.Cond.privateMethod ({ cls := "MouldVotesModel", name := "closes", desc := "()V" } : Jvm.MethodName)) ∈ lw_tbl := lw_at lw_m8 89 rfl
theorem q1890 : (Jvm.Cond.instanceMethod ({ cls := "MouldVotesModel", name := "closes", desc := "()V" } : Jvm.MethodName)) ∈ lw_all := lw_g (lw_at lw_m8 90 rfl) rfl
theorem q1891 : (Jvm.Cond.code ({ cls := "MouldVotesModel", name := "closes", desc := "()V" } : Jvm.MethodName) prog_12_method_34_code (1 : Nat) (Option.none : Option Jvm.ClassFile.FieldType)) ∈ lw_all := lw_g (lw_at lw_m8 91 rfl) rfl
theorem q1892 : (Jvm.Cond.methodLink "MouldVotesModel" (287 : Nat) ({ cls := "MouldVotesModel", name := "need", desc := "(Z)V" } : Jvm.MethodName)) ∈ lw_all := lw_g (lw_at lw_m8 92 rfl) rfl
theorem q1893 : (Jvm.Cond.privateMethod ({ cls := "MouldVotesModel", name := "need", desc := "(Z)V" } : Jvm.MethodName)) ∈ lw_tbl := lw_at lw_m8 93 rfl
theorem q1894 : (Jvm.Cond.instanceMethod ({ cls := "MouldVotesModel", name := "need", desc := "(Z)V" } : Jvm.MethodName)) ∈ lw_all := lw_g (lw_at lw_m8 94 rfl) rfl
theorem q1895 : (Jvm.Cond.code ({ cls := "MouldVotesModel", name := "need", desc := "(Z)V" } : Jvm.MethodName) prog_12_method_22_code (2 : Nat) (Option.none : Option Jvm.ClassFile.FieldType)) ∈ lw_all := lw_g (lw_at lw_m8 95 rfl) rfl
theorem q1896 : (Jvm.Cond.methodLink "MouldVotesModel" (303 : Nat) ({ cls := "MouldVotesModel", name := "copies", desc := "([I[I)V" } : Jvm.MethodName)) ∈ lw_all := lw_g (lw_at lw_m8 96 rfl) rfl
theorem q1897 : (Jvm.Cond.privateMethod ({ cls := "MouldVotesModel", name := "copies", desc := "([I[I)V" } : Jvm.MethodName)) ∈ lw_tbl := lw_at lw_m8 97 rfl
theorem q1898 : (Jvm.Cond.instanceMethod ({ cls := "MouldVotesModel", name := "copies", desc := "([I[I)V" } : Jvm.MethodName)) ∈ lw_all := lw_g (lw_at lw_m8 98 rfl) rfl
theorem q1899 : (Jvm.Cond.code ({ cls := "MouldVotesModel", name := "copies", desc := "([I[I)V" } : Jvm.MethodName) prog_12_method_8_code (4 : Nat) (Option.none : Option Jvm.ClassFile.FieldType)) ∈ lw_all := lw_g (lw_at lw_m8 99 rfl) rfl
theorem q1901 : (Jvm.Cond.instanceMethod ({ cls := "MouldVotesModel", name := "fault", desc := "()I" } : Jvm.MethodName)) ∈ lw_all := lw_g (lw_at lw_m8 101 rfl) rfl
theorem q1902 : (Jvm.Cond.selects "MouldVotesModel" ({ cls := "MouldVotesModel", name := "fault", desc := "()I" } : Jvm.MethodName) ({ cls := "MouldVotesModel", name := "fault", desc := "()I" } : Jvm.MethodName)) ∈ lw_all := lw_g (lw_at lw_m8 102 rfl) rfl
theorem q1903 : (Jvm.Cond.code ({ cls := "MouldVotesModel", name := "fault", desc := "()I" } : Jvm.MethodName) prog_12_method_44_code (1 : Nat) (Option.some Jvm.ClassFile.FieldType.int)) ∈ lw_all := lw_g (lw_at lw_m8 103 rfl) rfl
theorem q1905 : (Jvm.Cond.instanceMethod ({ cls := "MouldVotesModel", name := "undo", desc := "()I" } : Jvm.MethodName)) ∈ lw_all := lw_g (lw_at lw_m8 105 rfl) rfl
theorem q1906 : (Jvm.Cond.selects "MouldVotesModel" ({ cls := "MouldVotesModel", name := "undo", desc := "()I" } : Jvm.MethodName) ({ cls := "MouldVotesModel", name := "undo", desc := "()I" } : Jvm.MethodName)) ∈ lw_all := lw_g (lw_at lw_m8 106 rfl) rfl
theorem q1907 : (Jvm.Cond.code ({ cls := "MouldVotesModel", name := "undo", desc := "()I" } : Jvm.MethodName) prog_12_method_47_code (2 : Nat) (Option.some Jvm.ClassFile.FieldType.int)) ∈ lw_all := lw_g (lw_at lw_m8 107 rfl) rfl
theorem q1909 : (Jvm.Cond.instanceMethod ({ cls := "MouldVotesModel", name := "count", desc := "(I)I" } : Jvm.MethodName)) ∈ lw_all := lw_g (lw_at lw_m8 109 rfl) rfl
theorem q1910 : (Jvm.Cond.selects "MouldVotesModel" ({ cls := "MouldVotesModel", name := "count", desc := "(I)I" } : Jvm.MethodName) ({ cls := "MouldVotesModel", name := "count", desc := "(I)I" } : Jvm.MethodName)) ∈ lw_all := lw_g (lw_at lw_m8 110 rfl) rfl
theorem q1911 : (Jvm.Cond.code ({ cls := "MouldVotesModel", name := "count", desc := "(I)I" } : Jvm.MethodName) prog_12_method_68_code (2 : Nat) (Option.some Jvm.ClassFile.FieldType.int)) ∈ lw_all := lw_g (lw_at lw_m8 111 rfl) rfl
theorem q1912 : (Jvm.Cond.methodLink "MouldVotesModel" (373 : Nat) ({ cls := "MouldVotesModel", name := "within", desc := "(III)Z" } : Jvm.MethodName)) ∈ lw_all := lw_g (lw_at lw_m8 112 rfl) rfl
theorem q1913 : (Jvm.Cond.static ({ cls := "MouldVotesModel", name := "within", desc := "(III)Z" } : Jvm.MethodName)) ∈ lw_all := lw_g (lw_at lw_m8 113 rfl) rfl
theorem q1914 : (Jvm.Cond.code ({ cls := "MouldVotesModel", name := "within", desc := "(III)Z" } : Jvm.MethodName) prog_12_method_5_code (3 : Nat) (Option.some Jvm.ClassFile.FieldType.boolean)) ∈ lw_all := lw_g (lw_at lw_m8 114 rfl) rfl
theorem q1915 : (Jvm.Cond.methodLink "MouldVotesModel" (321 : Nat) ({ cls := "MouldVotesModel", name := "cells", desc := "()I" } : Jvm.MethodName)) ∈ lw_all := lw_g (lw_at lw_m8 115 rfl) rfl
theorem q1916 : (Jvm.Cond.privateMethod ({ cls := "MouldVotesModel", name := "cells", desc := "()I" } : Jvm.MethodName)) ∈ lw_tbl := lw_at lw_m8 116 rfl
theorem q1917 : (Jvm.Cond.instanceMethod ({ cls := "MouldVotesModel", name := "cells", desc := "()I" } : Jvm.MethodName)) ∈ lw_all := lw_g (lw_at lw_m8 117 rfl) rfl
theorem q1918 : (Jvm.Cond.code ({ cls := "MouldVotesModel", name := "cells", desc := "()I" } : Jvm.MethodName) prog_12_method_51_code (1 : Nat) (Option.some Jvm.ClassFile.FieldType.int)) ∈ lw_all := lw_g (lw_at lw_m8 118 rfl) rfl
theorem q1919 : (Jvm.Cond.methodLink "MouldVotesModel" (327 : Nat) ({ cls := "MouldVotesModel", name := "weatherOf", desc := "(I)I" } : Jvm.MethodName)) ∈ lw_all := lw_g (lw_at lw_m8 119 rfl) rfl
theorem q1920 : (Jvm.Cond.privateMethod ({ cls := "MouldVotesModel", name := "weatherOf", desc := "(I)I" } : Jvm.MethodName)) ∈ lw_tbl := lw_at lw_m8 120 rfl
theorem q1921 : (Jvm.Cond.instanceMethod ({ cls := "MouldVotesModel", name := "weatherOf", desc := "(I)I" } : Jvm.MethodName)) ∈ lw_all := lw_g (lw_at lw_m8 121 rfl) rfl
theorem q1922 : (Jvm.Cond.code ({ cls := "MouldVotesModel", name := "weatherOf", desc := "(I)I" } : Jvm.MethodName) prog_12_method_54_code (2 : Nat) (Option.some Jvm.ClassFile.FieldType.int)) ∈ lw_all := lw_g (lw_at lw_m8 122 rfl) rfl
theorem q1923 : (Jvm.Cond.methodLink "MouldVotesModel" (376 : Nat) ({ cls := "MouldVotesModel", name := "mouldsNow", desc := "()I" } : Jvm.MethodName)) ∈ lw_all := lw_g (lw_at lw_m8 123 rfl) rfl
theorem q1924 : (Jvm.Cond.privateMethod ({ cls := "MouldVotesModel", name := "mouldsNow", desc := "()I" } : Jvm.MethodName)) ∈ lw_tbl := lw_at lw_m8 124 rfl
theorem q1925 : (Jvm.Cond.instanceMethod ({ cls := "MouldVotesModel", name := "mouldsNow", desc := "()I" } : Jvm.MethodName)) ∈ lw_all := lw_g (lw_at lw_m8 125 rfl) rfl
theorem q1926 : (Jvm.Cond.code ({ cls := "MouldVotesModel", name := "mouldsNow", desc := "()I" } : Jvm.MethodName) prog_12_method_67_code (3 : Nat) (Option.some Jvm.ClassFile.FieldType.int)) ∈ lw_all := lw_g (lw_at lw_m8 126 rfl) rfl
theorem q1927 : (Jvm.Cond.methodLink "MouldVotesModel" (379 : Nat) ({ cls := "MouldVotesModel", name := "votesAll", desc := "(I)I" } : Jvm.MethodName)) ∈ lw_all := lw_g (lw_at lw_m8 127 rfl) rfl
theorem q1928 : (Jvm.Cond.privateMethod ({ cls := "MouldVotesModel", name := "votesAll", desc := "(I)I" } : Jvm.MethodName)) ∈ lw_tbl := lw_at lw_m8 128 rfl
theorem q1929 : (Jvm.Cond.instanceMethod ({ cls := "MouldVotesModel", name := "votesAll", desc := "(I)I" } : Jvm.MethodName)) ∈ lw_all := lw_g (lw_at lw_m8 129 rfl) rfl
theorem q1930 : (Jvm.Cond.code ({ cls := "MouldVotesModel", name := "votesAll", desc := "(I)I" } : Jvm.MethodName) prog_12_method_66_code (4 : Nat) (Option.some Jvm.ClassFile.FieldType.int)) ∈ lw_all := lw_g (lw_at lw_m8 130 rfl) rfl
theorem q1931 : (Jvm.Cond.methodLink "MouldVotesModel" (370 : Nat) ({ cls := "MouldVotesModel", name := "votesOf", desc := "(II)I" } : Jvm.MethodName)) ∈ lw_all := lw_g (lw_at lw_m8 131 rfl) rfl
theorem q1932 : (Jvm.Cond.privateMethod ({ cls := "MouldVotesModel", name := "votesOf", desc := "(II)I" } : Jvm.MethodName)) ∈ lw_tbl := lw_at lw_m8 132 rfl
theorem q1933 : (Jvm.Cond.instanceMethod ({ cls := "MouldVotesModel", name := "votesOf", desc := "(II)I" } : Jvm.MethodName)) ∈ lw_all := lw_g (lw_at lw_m8 133 rfl) rfl
theorem q1934 : (Jvm.Cond.code ({ cls := "MouldVotesModel", name := "votesOf", desc := "(II)I" } : Jvm.MethodName) prog_12_method_64_code (5 : Nat) (Option.some Jvm.ClassFile.FieldType.int)) ∈ lw_all := lw_g (lw_at lw_m8 134 rfl) rfl
theorem q1935 : (Jvm.Cond.methodLink "MouldVotesModel" (366 : Nat) ({ cls := "MouldVotesModel", name := "doesVote", desc := "(II)Z" } : Jvm.MethodName)) ∈ lw_all := lw_g (lw_at lw_m8 135 rfl) rfl
theorem q1936 : (Jvm.Cond.privateMethod ({ cls := "MouldVotesModel", name := "doesVote", desc := "(II)Z" } : Jvm.MethodName)) ∈ lw_tbl := lw_at lw_m8 136 rfl
theorem q1937 : (Jvm.Cond.instanceMethod ({ cls := "MouldVotesModel", name := "doesVote", desc := "(II)Z" } : Jvm.MethodName)) ∈ lw_all := lw_g (lw_at lw_m8 137 rfl) rfl
theorem q1938 : (Jvm.Cond.code ({ cls := "MouldVotesModel", name := "doesVote", desc := "(II)Z" } : Jvm.MethodName) prog_12_method_63_code (3 : Nat) (Option.some Jvm.ClassFile.FieldType.boolean)) ∈ lw_all := lw_g (lw_at lw_m8 138 rfl) rfl
theorem q1939 : (Jvm.Cond.methodLink "MouldVotesModel" (382 : Nat) ({ cls := "MouldVotesModel", name := "winnerIn", desc := "(I)I" } : Jvm.MethodName)) ∈ lw_all := lw_g (lw_at lw_m8 139 rfl) rfl
theorem q1940 : (Jvm.Cond.privateMethod ({ cls := "MouldVotesModel", name := "winnerIn", desc := "(I)I" } : Jvm.MethodName)) ∈ lw_tbl := lw_at lw_m8 140 rfl
theorem q1941 : (Jvm.Cond.instanceMethod ({ cls := "MouldVotesModel", name := "winnerIn", desc := "(I)I" } : Jvm.MethodName)) ∈ lw_all := lw_g (lw_at lw_m8 141 rfl) rfl
theorem q1942 : (Jvm.Cond.code ({ cls := "MouldVotesModel", name := "winnerIn", desc := "(I)I" } : Jvm.MethodName) prog_12_method_65_code (6 : Nat) (Option.some Jvm.ClassFile.FieldType.int)) ∈ lw_all := lw_g (lw_at lw_m8 142 rfl) rfl
theorem q1944 : (Jvm.Cond.instanceMethod ({ cls := "MouldVotesModel", name := "cell", desc := "(II)I" } : Jvm.MethodName)) ∈ lw_all := lw_g (lw_at lw_m8 144 rfl) rfl
theorem q1945 : (Jvm.Cond.selects "MouldVotesModel" ({ cls := "MouldVotesModel", name := "cell", desc := "(II)I" } : Jvm.MethodName) ({ cls := "MouldVotesModel", name := "cell", desc := "(II)I" } : Jvm.MethodName)) ∈ lw_all := lw_g (lw_at lw_m8 145 rfl) rfl
theorem q1946 : (Jvm.Cond.code ({ cls := "MouldVotesModel", name := "cell", desc := "(II)I" } : Jvm.MethodName) prog_12_method_73_code (5 : Nat) (Option.some Jvm.ClassFile.FieldType.int)) ∈ lw_all := lw_g (lw_at lw_m8 146 rfl) rfl
theorem q1947 : (Jvm.Cond.methodLink "MouldVotesModel" (385 : Nat) ({ cls := "MouldVotesModel", name := "isTheCell", desc := "(I)Z" } : Jvm.MethodName)) ∈ lw_all := lw_g (lw_at lw_m8 147 rfl) rfl
theorem q1948 : (Jvm.Cond.privateMethod ({ cls := "MouldVotesModel", name := "isTheCell", desc := "(I)Z" } : Jvm.MethodName)) ∈ lw_tbl := lw_at lw_m8 148 rfl
theorem q1949 : (Jvm.Cond.instanceMethod ({ cls := "MouldVotesModel", name := "isTheCell", desc := "(I)Z" } : Jvm.MethodName)) ∈ lw_all := lw_g (lw_at lw_m8 149 rfl) rfl
theorem q1950 : (Jvm.Cond.code ({ cls := "MouldVotesModel", name := "isTheCell", desc := "(I)Z" } : Jvm.MethodName) prog_12_method_69_code (2 : Nat) (Option.some Jvm.ClassFile.FieldType.boolean)) ∈ lw_all := lw_g (lw_at lw_m8 150 rfl) rfl
theorem q1951 : (Jvm.Cond.methodLink "MouldVotesModel" (388 : Nat) ({ cls := "MouldVotesModel", name := "isWhat", desc := "(II)Z" } : Jvm.MethodName)) ∈ lw_all := lw_g (lw_at lw_m8 151 rfl) rfl
theorem q1952 : (Jvm.Cond.privateMethod ({ cls := "MouldVotesModel", name := "isWhat", desc := "(II)Z" } : Jvm.MethodName)) ∈ lw_tbl := lw_at lw_m8 152 rfl
theorem q1953 : (Jvm.Cond.instanceMethod ({ cls := "MouldVotesModel", name := "isWhat", desc := "(II)Z" } : Jvm.MethodName)) ∈ lw_all := lw_g (lw_at lw_m8 153 rfl) rfl
theorem q1954 : (Jvm.Cond.code ({ cls := "MouldVotesModel", name := "isWhat", desc := "(II)Z" } : Jvm.MethodName) prog_12_method_72_code (3 : Nat) (Option.some Jvm.ClassFile.FieldType.boolean)) ∈ lw_all := lw_g (lw_at lw_m8 154 rfl) rfl
theorem q1955 : (Jvm.Cond.methodLink "MouldVotesModel" (324 : Nat) ({ cls := "MouldVotesModel", name := "far", desc := "(II)I" } : Jvm.MethodName)) ∈ lw_all := lw_g (lw_at lw_m8 155 rfl) rfl
theorem q1956 : (Jvm.Cond.privateMethod ({ cls := "MouldVotesModel", name := "far", desc := "(II)I" } : Jvm.MethodName)) ∈ lw_tbl := lw_at lw_m8 156 rfl
theorem q1957 : (Jvm.Cond.instanceMethod ({ cls := "MouldVotesModel", name := "far", desc := "(II)I" } : Jvm.MethodName)) ∈ lw_all := lw_g (lw_at lw_m8 157 rfl) rfl
theorem q1958 : (Jvm.Cond.code ({ cls := "MouldVotesModel", name := "far", desc := "(II)I" } : Jvm.MethodName) prog_12_method_52_code (5 : Nat) (Option.some Jvm.ClassFile.FieldType.int)) ∈ lw_all := lw_g (lw_at lw_m8 158 rfl) rfl
theorem q1959 : (Jvm.Cond.methodLink "MouldVotesModel" (343 : Nat) ({ cls := "MouldVotesModel", name := "growthOf", desc := "(II)I" } : Jvm.MethodName)) ∈ lw_all := lw_g (lw_at lw_m8 159 rfl) rfl
theorem q1960 : (Jvm.Cond.privateMethod ({ cls := "MouldVotesModel", name := "growthOf", desc := "(II)I" } : Jvm.MethodName)) ∈ lw_tbl := lw_at lw_m8 160 rfl
theorem q1961 : (Jvm.Cond.instanceMethod ({ cls := "MouldVotesModel", name := "growthOf", desc := "(II)I" } : Jvm.MethodName)) ∈ lw_all := lw_g (lw_at lw_m8 161 rfl) rfl
theorem q1962 : (Jvm.Cond.code ({ cls := "MouldVotesModel", name := "growthOf", desc := "(II)I" } : Jvm.MethodName) prog_12_method_55_code (5 : Nat) (Option.some Jvm.ClassFile.FieldType.int)) ∈ lw_all := lw_g (lw_at lw_m8 162 rfl) rfl
theorem q1963 : (Jvm.Cond.methodLink "MouldVotesModel" (330 : Nat) ({ cls := "MouldVotesModel", name := "besideOf", desc := "(IIZ)I" } : Jvm.MethodName)) ∈ lw_all := lw_g (lw_at lw_m8 163 rfl) rfl
theorem q1964 : (Jvm.Cond.privateMethod ({ cls := "MouldVotesModel", name := "besideOf", desc := "(IIZ)I" } : Jvm.MethodName)) ∈ lw_tbl := lw_at lw_m8 164 rfl
theorem q1965 : (Jvm.Cond.instanceMethod ({ cls := "MouldVotesModel", name := "besideOf", desc := "(IIZ)I" } : Jvm.MethodName)) ∈ lw_all := lw_g (lw_at lw_m8 165 rfl) rfl
theorem q1966 : (Jvm.Cond.code ({ cls := "MouldVotesModel", name := "besideOf", desc := "(IIZ)I" } : Jvm.MethodName) prog_12_method_53_code (6 : Nat) (Option.some Jvm.ClassFile.FieldType.int)) ∈ lw_all := lw_g (lw_at lw_m8 166 rfl) rfl
theorem q1967 : (Jvm.Cond.methodLink "MouldVotesModel" (334 : Nat) ({ cls := "MouldVotesModel", name := "reckons", desc := "(I)I" } : Jvm.MethodName)) ∈ lw_all := lw_g (lw_at lw_m8 167 rfl) rfl
theorem q1968 : (Jvm.Cond.privateMethod ({ cls := "MouldVotesModel", name := "reckons", desc := "(I)I" } : Jvm.MethodName)) ∈ lw_tbl := lw_at lw_m8 168 rfl
theorem q1969 : (Jvm.Cond.instanceMethod ({ cls := "MouldVotesModel", name := "reckons", desc := "(I)I" } : Jvm.MethodName)) ∈ lw_all := lw_g (lw_at lw_m8 169 rfl) rfl
theorem q1970 : (Jvm.Cond.code ({ cls := "MouldVotesModel", name := "reckons", desc := "(I)I" } : Jvm.MethodName) prog_12_method_50_code (5 : Nat) (Option.some Jvm.ClassFile.FieldType.int)) ∈ lw_all := lw_g (lw_at lw_m8 170 rfl) rfl
theorem q1971 : (Jvm.Cond.methodLink "MouldVotesModel" (317 : Nat) ({ cls := "MouldVotesModel", name := "works", desc := "(III)I" } : Jvm.MethodName)) ∈ lw_all := lw_g (lw_at lw_m8 171 rfl) rfl
theorem q1972 : (Jvm.Cond.static ({ cls := "MouldVotesModel", name := "works", desc := "(III)I" } : Jvm.MethodName)) ∈ lw_all := lw_g (lw_at lw_m8 172 rfl) rfl
theorem q1973 : (Jvm.Cond.code ({ cls := "MouldVotesModel", name := "works", desc := "(III)I" } : Jvm.MethodName) prog_12_method_49_code (3 : Nat) (Option.some Jvm.ClassFile.FieldType.int)) ∈ lw_all := lw_g (lw_at lw_m8 173 rfl) rfl
theorem q1974 : (Jvm.Cond.methodLink "MouldVotesModel" (337 : Nat) ({ cls := "MouldVotesModel", name := "kept", desc := "(III)I" } : Jvm.MethodName)) ∈ lw_all := lw_g (lw_at lw_m8 174 rfl) rfl
theorem q1975 : (Jvm.Cond.static ({ cls := "MouldVotesModel", name := "kept", desc := "(III)I" } : Jvm.MethodName)) ∈ lw_all := lw_g (lw_at lw_m8 175 rfl) rfl
theorem q1976 : (Jvm.Cond.code ({ cls := "MouldVotesModel", name := "kept", desc := "(III)I" } : Jvm.MethodName) prog_12_method_6_code (3 : Nat) (Option.some Jvm.ClassFile.FieldType.int)) ∈ lw_all := lw_g (lw_at lw_m8 176 rfl) rfl
theorem q1977 : (Jvm.Cond.methodLink "MouldVotesModel" (340 : Nat) ({ cls := "MouldVotesModel", name := "lesser", desc := "(II)I" } : Jvm.MethodName)) ∈ lw_all := lw_g (lw_at lw_m8 177 rfl) rfl
theorem q1978 : (Jvm.Cond.static ({ cls := "MouldVotesModel", name := "lesser", desc := "(II)I" } : Jvm.MethodName)) ∈ lw_all := lw_g (lw_at lw_m8 178 rfl) rfl
theorem q1979 : (Jvm.Cond.code ({ cls := "MouldVotesModel", name := "lesser", desc := "(II)I" } : Jvm.MethodName) prog_12_method_7_code (2 : Nat) (Option.some Jvm.ClassFile.FieldType.int)) ∈ lw_all := lw_g (lw_at lw_m8 179 rfl) rfl
theorem q1981 : (Jvm.Cond.instanceMethod ({ cls := "MouldVotesModel", name := "party", desc := "(I)I" } : Jvm.MethodName)) ∈ lw_all := lw_g (lw_at lw_m8 181 rfl) rfl
theorem q1982 : (Jvm.Cond.selects "MouldVotesModel" ({ cls := "MouldVotesModel", name := "party", desc := "(I)I" } : Jvm.MethodName) ({ cls := "MouldVotesModel", name := "party", desc := "(I)I" } : Jvm.MethodName)) ∈ lw_all := lw_g (lw_at lw_m8 182 rfl) rfl
theorem q1983 : (Jvm.Cond.code ({ cls := "MouldVotesModel", name := "party", desc := "(I)I" } : Jvm.MethodName) prog_12_method_74_code (2 : Nat) (Option.some Jvm.ClassFile.FieldType.int)) ∈ lw_all := lw_g (lw_at lw_m8 183 rfl) rfl
theorem q1984 : (Jvm.Cond.methodLink "MouldVotesModel" (391 : Nat) ({ cls := "MouldVotesModel", name := "isKind", desc := "(I)Z" } : Jvm.MethodName)) ∈ lw_all := lw_g (lw_at lw_m8 184 rfl) rfl
theorem q1985 : (Jvm.Cond.privateMethod ({ cls := "MouldVotesModel", name := "isKind", desc := "(I)Z" } : Jvm.MethodName)) ∈ lw_tbl := lw_at lw_m8 185 rfl
theorem q1986 : (Jvm.Cond.instanceMethod ({ cls := "MouldVotesModel", name := "isKind", desc := "(I)Z" } : Jvm.MethodName)) ∈ lw_all := lw_g (lw_at lw_m8 186 rfl) rfl
theorem q1987 : (Jvm.Cond.code ({ cls := "MouldVotesModel", name := "isKind", desc := "(I)Z" } : Jvm.MethodName) prog_12_method_70_code (2 : Nat) (Option.some Jvm.ClassFile.FieldType.boolean)) ∈ lw_all := lw_g (lw_at lw_m8 187 rfl) rfl
theorem q1989 : (Jvm.Cond.instanceMethod ({ cls := "MouldVotesModel", name := "votes", desc := "(I)I" } : Jvm.MethodName)) ∈ lw_all := lw_g (lw_at lw_m8 189 rfl) rfl
theorem q1990 : (Jvm.Cond.selects "MouldVotesModel" ({ cls := "MouldVotesModel", name := "votes", desc := "(I)I" } : Jvm.MethodName) ({ cls := "MouldVotesModel", name := "votes", desc := "(I)I" } : Jvm.MethodName)) ∈ lw_all := lw_g (lw_at lw_m8 190 rfl) rfl
theorem q1991 : (Jvm.Cond.code ({ cls := "MouldVotesModel", name := "votes", desc := "(I)I" } : Jvm.MethodName) prog_12_method_75_code (2 : Nat) (Option.some Jvm.ClassFile.FieldType.int)) ∈ lw_all := lw_g (lw_at lw_m8 191 rfl) rfl
theorem q1992 : (Jvm.Cond.methodLink "MouldVotesModel" (394 : Nat) ({ cls := "MouldVotesModel", name := "isParty", desc := "(I)Z" } : Jvm.MethodName)) ∈ lw_all := lw_g (lw_at lw_m8 192 rfl) rfl
theorem q1993 : (Jvm.Cond.privateMethod ({ cls := "MouldVotesModel", name := "isParty", desc := "(I)Z" } : Jvm.MethodName)) ∈ lw_tbl := lw_at lw_m8 193 rfl
theorem q1994 : (Jvm.Cond.instanceMethod ({ cls := "MouldVotesModel", name := "isParty", desc := "(I)Z" } : Jvm.MethodName)) ∈ lw_all := lw_g (lw_at lw_m8 194 rfl) rfl
theorem q1995 : (Jvm.Cond.code ({ cls := "MouldVotesModel", name := "isParty", desc := "(I)Z" } : Jvm.MethodName) prog_12_method_71_code (2 : Nat) (Option.some Jvm.ClassFile.FieldType.boolean)) ∈ lw_all := lw_g (lw_at lw_m8 195 rfl) rfl
theorem q1997 : (Jvm.Cond.instanceMethod ({ cls := "MouldVotesModel", name := "days", desc := "(I)I" } : Jvm.MethodName)) ∈ lw_all := lw_g (lw_at lw_m8 197 rfl) rfl
theorem q1998 : (Jvm.Cond.selects "MouldVotesModel" ({ cls := "MouldVotesModel", name := "days", desc := "(I)I" } : Jvm.MethodName) ({ cls := "MouldVotesModel", name := "days", desc := "(I)I" } : Jvm.MethodName)) ∈ lw_all := lw_g (lw_at lw_m8 198 rfl) rfl
theorem q1999 : (Jvm.Cond.code ({ cls := "MouldVotesModel", name := "days", desc := "(I)I" } : Jvm.MethodName) prog_12_method_76_code (3 : Nat) (Option.some Jvm.ClassFile.FieldType.int)) ∈ lw_all := lw_g (lw_at lw_m8 199 rfl) rfl
theorem q2000 : (Jvm.Cond.methodLink "MouldVotesModel" (397 : Nat) ({ cls := "MouldVotesModel", name := "refuses", desc := "(I)I" } : Jvm.MethodName)) ∈ lw_all := lw_g (lw_at lw_m8 200 rfl) rfl
theorem q2001 : (Jvm.Cond.privateMethod ({ cls := "MouldVotesModel", name := "refuses", desc := "(I)I" } : Jvm.MethodName)) ∈ lw_tbl := lw_at lw_m8 201 rfl
theorem q2002 : (Jvm.Cond.instanceMethod ({ cls := "MouldVotesModel", name := "refuses", desc := "(I)I" } : Jvm.MethodName)) ∈ lw_all := lw_g (lw_at lw_m8 202 rfl) rfl
theorem q2003 : (Jvm.Cond.code ({ cls := "MouldVotesModel", name := "refuses", desc := "(I)I" } : Jvm.MethodName) prog_12_method_46_code (2 : Nat) (Option.some Jvm.ClassFile.FieldType.int)) ∈ lw_all := lw_g (lw_at lw_m8 203 rfl) rfl
theorem q2004 : (Jvm.Cond.methodLink "MouldVotesModel" (400 : Nat) ({ cls := "MouldVotesModel", name := "keeps", desc := "()V" } : Jvm.MethodName)) ∈ lw_all := lw_g (lw_at lw_m8 204 rfl) rfl
theorem q2005 : (Jvm.Cond.privateMethod ({ cls := "MouldVotesModel", name := "keeps", desc := "()V" } : Jvm.MethodName)) ∈ lw_tbl := lw_at lw_m8 205 rfl
theorem q2006 : (Jvm.Cond.instanceMethod ({ cls := "MouldVotesModel", name := "keeps", desc := "()V" } : Jvm.MethodName)) ∈ lw_all := lw_g (lw_at lw_m8 206 rfl) rfl
theorem q2007 : (Jvm.Cond.code ({ cls := "MouldVotesModel", name := "keeps", desc := "()V" } : Jvm.MethodName) prog_12_method_45_code (2 : Nat) (Option.none : Option Jvm.ClassFile.FieldType)) ∈ lw_all := lw_g (lw_at lw_m8 207 rfl) rfl
theorem q2008 : (Jvm.Cond.methodLink "MouldVotesModel" (363 : Nat) ({ cls := "MouldVotesModel", name := "dayGoes", desc := "(I)V" } : Jvm.MethodName)) ∈ lw_all := lw_g (lw_at lw_m8 208 rfl) rfl
theorem q2009 : (Jvm.Cond.privateMethod ({ cls := "MouldVotesModel", name := "dayGoes", desc := "(I)V" } : Jvm.MethodName)) ∈ lw_tbl := lw_at lw_m8 209 rfl
theorem q2010 : (Jvm.Cond.instanceMethod ({ cls := "MouldVotesModel", name := "dayGoes", desc := "(I)V" } : Jvm.MethodName)) ∈ lw_all := lw_g (lw_at lw_m8 210 rfl) rfl
theorem q2011 : (Jvm.Cond.code ({ cls := "MouldVotesModel", name := "dayGoes", desc := "(I)V" } : Jvm.MethodName) prog_12_method_61_code (3 : Nat) (Option.none : Option Jvm.ClassFile.FieldType)) ∈ lw_all := lw_g (lw_at lw_m8 211 rfl) rfl
theorem q2012 : (Jvm.Cond.methodLink "MouldVotesModel" (354 : Nat) ({ cls := "MouldVotesModel", name := "grow", desc := "(I)V" } : Jvm.MethodName)) ∈ lw_all := lw_g (lw_at lw_m8 212 rfl) rfl
theorem q2013 : (Jvm.Cond.privateMethod ({ cls := "MouldVotesModel", name := "grow", desc := "(I)V" } : Jvm.MethodName)) ∈ lw_tbl := lw_at lw_m8 213 rfl
theorem q2014 : (Jvm.Cond.instanceMethod ({ cls := "MouldVotesModel", name := "grow", desc := "(I)V" } : Jvm.MethodName)) ∈ lw_all := lw_g (lw_at lw_m8 214 rfl) rfl
theorem q2015 : (Jvm.Cond.code ({ cls := "MouldVotesModel", name := "grow", desc := "(I)V" } : Jvm.MethodName) prog_12_method_58_code (3 : Nat) (Option.none : Option Jvm.ClassFile.FieldType)) ∈ lw_all := lw_g (lw_at lw_m8 215 rfl) rfl
theorem q2016 : (Jvm.Cond.methodLink "MouldVotesModel" (346 : Nat) ({ cls := "MouldVotesModel", name := "clears", desc := "(II)V" } : Jvm.MethodName)) ∈ lw_all := lw_g (lw_at lw_m8 216 rfl) rfl
theorem q2017 : (Jvm.Cond.privateMethod ({ cls := "MouldVotesModel", name := "clears", desc := "(II)V" } : Jvm.MethodName)) ∈ lw_tbl := lw_at lw_m8 217 rfl
theorem q2018 : (Jvm.Cond.instanceMethod ({ cls := "MouldVotesModel", name := "clears", desc := "(II)V" } : Jvm.MethodName)) ∈ lw_all := lw_g (lw_at lw_m8 218 rfl) rfl
theorem q2019 : (Jvm.Cond.code ({ cls := "MouldVotesModel", name := "clears", desc := "(II)V" } : Jvm.MethodName) prog_12_method_57_code (3 : Nat) (Option.none : Option Jvm.ClassFile.FieldType)) ∈ lw_all := lw_g (lw_at lw_m8 219 rfl) rfl
theorem q2020 : (Jvm.Cond.methodLink "MouldVotesModel" (357 : Nat) ({ cls := "MouldVotesModel", name := "beatenBy", desc := "(II)I" } : Jvm.MethodName)) ∈ lw_all := lw_g (lw_at lw_m8 220 rfl) rfl
theorem q2021 : (Jvm.Cond.privateMethod ({ cls := "MouldVotesModel", name := "beatenBy", desc := "(II)I" } : Jvm.MethodName)) ∈ lw_tbl := lw_at lw_m8 221 rfl
theorem q2022 : (Jvm.Cond.instanceMethod ({ cls := "MouldVotesModel", name := "beatenBy", desc := "(II)I" } : Jvm.MethodName)) ∈ lw_all := lw_g (lw_at lw_m8 222 rfl) rfl
theorem q2023 : (Jvm.Cond.code ({ cls := "MouldVotesModel", name := "beatenBy", desc := "(II)I" } : Jvm.MethodName) prog_12_method_59_code (5 : Nat) (Option.some Jvm.ClassFile.FieldType.int)) ∈ lw_all := lw_g (lw_at lw_m8 223 rfl) rfl
theorem q2024 : (Jvm.Cond.methodLink "MouldVotesModel" (350 : Nat) ({ cls := "MouldVotesModel", name := "doesBeat", desc := "(III)Z" } : Jvm.MethodName)) ∈ lw_all := lw_g (lw_at lw_m8 224 rfl) rfl
theorem q2025 : (Jvm.Cond.privateMethod ({ cls := "MouldVotesModel", name := "doesBeat", desc := "(III)Z" } : Jvm.MethodName)) ∈ lw_tbl := lw_at lw_m8 225 rfl
theorem q2026 : (Jvm.Cond.instanceMethod ({ cls := "MouldVotesModel", name := "doesBeat", desc := "(III)Z" } : Jvm.MethodName)) ∈ lw_all := lw_g (lw_at lw_m8 226 rfl) rfl
theorem q2027 : (Jvm.Cond.code ({ cls := "MouldVotesModel", name := "doesBeat", desc := "(III)Z" } : Jvm.MethodName) prog_12_method_56_code (4 : Nat) (Option.some Jvm.ClassFile.FieldType.boolean)) ∈ lw_all := lw_g (lw_at lw_m8 227 rfl) rfl
theorem q2028 : (Jvm.Cond.methodLink "MouldVotesModel" (360 : Nat) ({ cls := "MouldVotesModel", name := "sownBy", desc := "(II)I" } : Jvm.MethodName)) ∈ lw_all := lw_g (lw_at lw_m8 228 rfl) rfl
theorem q2029 : (Jvm.Cond.privateMethod ({ cls := "MouldVotesModel", name := "sownBy", desc := "(II)I" } : Jvm.MethodName)) ∈ lw_tbl := lw_at lw_m8 229 rfl
theorem q2030 : (Jvm.Cond.instanceMethod ({ cls := "MouldVotesModel", name := "sownBy", desc := "(II)I" } : Jvm.MethodName)) ∈ lw_all := lw_g (lw_at lw_m8 230 rfl) rfl
theorem q2031 : (Jvm.Cond.code ({ cls := "MouldVotesModel", name := "sownBy", desc := "(II)I" } : Jvm.MethodName) prog_12_method_60_code (5 : Nat) (Option.some Jvm.ClassFile.FieldType.int)) ∈ lw_all := lw_g (lw_at lw_m8 231 rfl) rfl
theorem q2033 : (Jvm.Cond.instanceMethod ({ cls := "MouldVotesModel", name := "bread", desc := "(II)I" } : Jvm.MethodName)) ∈ lw_all := lw_g (lw_at lw_m8 233 rfl) rfl
theorem q2034 : (Jvm.Cond.selects "MouldVotesModel" ({ cls := "MouldVotesModel", name := "bread", desc := "(II)I" } : Jvm.MethodName) ({ cls := "MouldVotesModel", name := "bread", desc := "(II)I" } : Jvm.MethodName)) ∈ lw_all := lw_g (lw_at lw_m8 234 rfl) rfl
theorem q2035 : (Jvm.Cond.code ({ cls := "MouldVotesModel", name := "bread", desc := "(II)I" } : Jvm.MethodName) prog_12_method_77_code (3 : Nat) (Option.some Jvm.ClassFile.FieldType.int)) ∈ lw_all := lw_g (lw_at lw_m8 235 rfl) rfl
theorem q2037 : (Jvm.Cond.instanceMethod ({ cls := "MouldVotesModel", name := "damp", desc := "(II)I" } : Jvm.MethodName)) ∈ lw_all := lw_g (lw_at lw_m8 237 rfl) rfl
theorem q2038 : (Jvm.Cond.selects "MouldVotesModel" ({ cls := "MouldVotesModel", name := "damp", desc := "(II)I" } : Jvm.MethodName) ({ cls := "MouldVotesModel", name := "damp", desc := "(II)I" } : Jvm.MethodName)) ∈ lw_all := lw_g (lw_at lw_m8 238 rfl) rfl
theorem q2039 : (Jvm.Cond.code ({ cls := "MouldVotesModel", name := "damp", desc := "(II)I" } : Jvm.MethodName) prog_12_method_78_code (4 : Nat) (Option.some Jvm.ClassFile.FieldType.int)) ∈ lw_all := lw_g (lw_at lw_m8 239 rfl) rfl
theorem q2041 : (Jvm.Cond.instanceMethod ({ cls := "MouldVotesModel", name := "sow", desc := "(II)Z" } : Jvm.MethodName)) ∈ lw_all := lw_g (lw_at lw_m9 1 rfl) rfl
theorem q2042 : (Jvm.Cond.selects "MouldVotesModel" ({ cls := "MouldVotesModel", name := "sow", desc := "(II)Z" } : Jvm.MethodName) ({ cls := "MouldVotesModel", name := "sow", desc := "(II)Z" } : Jvm.MethodName)) ∈ lw_all := lw_g (lw_at lw_m9 2 rfl) rfl
theorem q2043 : (Jvm.Cond.code ({ cls := "MouldVotesModel", name := "sow", desc := "(II)Z" } : Jvm.MethodName) prog_12_method_79_code (3 : Nat) (Option.some Jvm.ClassFile.FieldType.boolean)) ∈ lw_all := lw_g (lw_at lw_m9 3 rfl) rfl
theorem q2045 : (Jvm.Cond.instanceMethod ({ cls := "MouldVotesModel", name := "scrape", desc := "(I)I" } : Jvm.MethodName)) ∈ lw_all := lw_g (lw_at lw_m9 5 rfl) rfl
theorem q2046 : (Jvm.Cond.selects "MouldVotesModel" ({ cls := "MouldVotesModel", name := "scrape", desc := "(I)I" } : Jvm.MethodName) ({ cls := "MouldVotesModel", name := "scrape", desc := "(I)I" } : Jvm.MethodName)) ∈ lw_all := lw_g (lw_at lw_m9 6 rfl) rfl
theorem q2047 : (Jvm.Cond.code ({ cls := "MouldVotesModel", name := "scrape", desc := "(I)I" } : Jvm.MethodName) prog_12_method_80_code (3 : Nat) (Option.some Jvm.ClassFile.FieldType.int)) ∈ lw_all := lw_g (lw_at lw_m9 7 rfl) rfl
theorem q2049 : (Jvm.Cond.instanceMethod ({ cls := "MouldVotesModel", name := "then", desc := "(III)I" } : Jvm.MethodName)) ∈ lw_all := lw_g (lw_at lw_m9 9 rfl) rfl
theorem q2050 : (Jvm.Cond.selects "MouldVotesModel" ({ cls := "MouldVotesModel", name := "then", desc := "(III)I" } : Jvm.MethodName) ({ cls := "MouldVotesModel", name := "then", desc := "(III)I" } : Jvm.MethodName)) ∈ lw_all := lw_g (lw_at lw_m9 10 rfl) rfl
theorem q2051 : (Jvm.Cond.code ({ cls := "MouldVotesModel", name := "then", desc := "(III)I" } : Jvm.MethodName) prog_12_method_83_code (4 : Nat) (Option.some Jvm.ClassFile.FieldType.int)) ∈ lw_all := lw_g (lw_at lw_m9 11 rfl) rfl
theorem q2052 : (Jvm.Cond.methodLink "MouldVotesModel" (409 : Nat) ({ cls := "MouldVotesModel", name := "isDays", desc := "(III)Z" } : Jvm.MethodName)) ∈ lw_all := lw_g (lw_at lw_m9 12 rfl) rfl
theorem q2053 : (Jvm.Cond.privateMethod ({ cls := "MouldVotesModel", name := "isDays", desc := "(III)Z" } : Jvm.MethodName)) ∈ lw_tbl := lw_at lw_m9 13 rfl
theorem q2054 : (Jvm.Cond.instanceMethod ({ cls := "MouldVotesModel", name := "isDays", desc := "(III)Z" } : Jvm.MethodName)) ∈ lw_all := lw_g (lw_at lw_m9 14 rfl) rfl
theorem q2055 : (Jvm.Cond.code ({ cls := "MouldVotesModel", name := "isDays", desc := "(III)Z" } : Jvm.MethodName) prog_12_method_81_code (4 : Nat) (Option.some Jvm.ClassFile.FieldType.boolean)) ∈ lw_all := lw_g (lw_at lw_m9 15 rfl) rfl
theorem q2056 : (Jvm.Cond.methodLink "MouldVotesModel" (412 : Nat) ({ cls := "MouldVotesModel", name := "goesTo", desc := "(I)V" } : Jvm.MethodName)) ∈ lw_all := lw_g (lw_at lw_m9 16 rfl) rfl
theorem q2057 : (Jvm.Cond.privateMethod ({ cls := "MouldVotesModel", name := "goesTo", desc := "(I)V" } : Jvm.MethodName)) ∈ lw_tbl := lw_at lw_m9 17 rfl
theorem q2058 : (Jvm.Cond.instanceMethod ({ cls := "MouldVotesModel", name := "goesTo", desc := "(I)V" } : Jvm.MethodName)) ∈ lw_all := lw_g (lw_at lw_m9 18 rfl) rfl
theorem q2059 : (Jvm.Cond.code ({ cls := "MouldVotesModel", name := "goesTo", desc := "(I)V" } : Jvm.MethodName) prog_12_method_82_code (2 : Nat) (Option.none : Option Jvm.ClassFile.FieldType)) ∈ lw_all := lw_g (lw_at lw_m9 19 rfl) rfl
theorem q2060 : (Jvm.Cond.methodLink "MouldVotesModel" (403 : Nat) ({ cls := "MouldVotesModel", name := "tries", desc := "()V" } : Jvm.MethodName)) ∈ lw_all := lw_g (lw_at lw_m9 20 rfl) rfl
theorem q2061 : (Jvm.Cond.privateMethod ({ cls := "MouldVotesModel", name := "tries", desc := "()V" } : Jvm.MethodName)) ∈ lw_tbl := lw_at lw_m9 21 rfl
theorem q2062 : (Jvm.Cond.instanceMethod ({ cls := "MouldVotesModel", name := "tries", desc := "()V" } : Jvm.MethodName)) ∈ lw_all := lw_g (lw_at lw_m9 22 rfl) rfl
theorem q2063 : (Jvm.Cond.code ({ cls := "MouldVotesModel", name := "tries", desc := "()V" } : Jvm.MethodName) prog_12_method_48_code (2 : Nat) (Option.none : Option Jvm.ClassFile.FieldType)) ∈ lw_all := lw_g (lw_at lw_m9 23 rfl) rfl
theorem q2064 : (Jvm.Cond.methodLink "MouldVotesModel" (406 : Nat) ({ cls := "MouldVotesModel", name := "daysGo", desc := "(I)V" } : Jvm.MethodName)) ∈ lw_all := lw_g (lw_at lw_m9 24 rfl) rfl
theorem q2065 : (Jvm.Cond.privateMethod ({ cls := "MouldVotesModel", name := "daysGo", desc := "(I)V" } : Jvm.MethodName)) ∈ lw_tbl := lw_at lw_m9 25 rfl
theorem q2066 : (Jvm.Cond.instanceMethod ({ cls := "MouldVotesModel", name := "daysGo", desc := "(I)V" } : Jvm.MethodName)) ∈ lw_all := lw_g (lw_at lw_m9 26 rfl) rfl
theorem q2067 : (Jvm.Cond.code ({ cls := "MouldVotesModel", name := "daysGo", desc := "(I)V" } : Jvm.MethodName) prog_12_method_62_code (3 : Nat) (Option.none : Option Jvm.ClassFile.FieldType)) ∈ lw_all := lw_g (lw_at lw_m9 27 rfl) rfl
theorem q2069 : (Jvm.Cond.instanceMethod ({ cls := "MouldVotesModel", name := "voting", desc := "(II)I" } : Jvm.MethodName)) ∈ lw_all := lw_g (lw_at lw_m9 29 rfl) rfl
theorem q2070 : (Jvm.Cond.selects "MouldVotesModel" ({ cls := "MouldVotesModel", name := "voting", desc := "(II)I" } : Jvm.MethodName) ({ cls := "MouldVotesModel", name := "voting", desc := "(II)I" } : Jvm.MethodName)) ∈ lw_all := lw_g (lw_at lw_m9 30 rfl) rfl
theorem q2071 : (Jvm.Cond.code ({ cls := "MouldVotesModel", name := "voting", desc := "(II)I" } : Jvm.MethodName) prog_12_method_84_code (3 : Nat) (Option.some Jvm.ClassFile.FieldType.int)) ∈ lw_all := lw_g (lw_at lw_m9 31 rfl) rfl
theorem q2073 : (Jvm.Cond.instanceMethod ({ cls := "MouldVotesModel", name := "winner", desc := "(I)I" } : Jvm.MethodName)) ∈ lw_all := lw_g (lw_at lw_m9 33 rfl) rfl
theorem q2074 : (Jvm.Cond.selects "MouldVotesModel" ({ cls := "MouldVotesModel", name := "winner", desc := "(I)I" } : Jvm.MethodName) ({ cls := "MouldVotesModel", name := "winner", desc := "(I)I" } : Jvm.MethodName)) ∈ lw_all := lw_g (lw_at lw_m9 34 rfl) rfl
theorem q2075 : (Jvm.Cond.code ({ cls := "MouldVotesModel", name := "winner", desc := "(I)I" } : Jvm.MethodName) prog_12_method_85_code (2 : Nat) (Option.some Jvm.ClassFile.FieldType.int)) ∈ lw_all := lw_g (lw_at lw_m9 35 rfl) rfl
theorem q2077 : (Jvm.Cond.instanceMethod ({ cls := "MouldVotesModel", name := "first", desc := "(I)I" } : Jvm.MethodName)) ∈ lw_all := lw_g (lw_at lw_m9 37 rfl) rfl
theorem q2078 : (Jvm.Cond.selects "MouldVotesModel" ({ cls := "MouldVotesModel", name := "first", desc := "(I)I" } : Jvm.MethodName) ({ cls := "MouldVotesModel", name := "first", desc := "(I)I" } : Jvm.MethodName)) ∈ lw_all := lw_g (lw_at lw_m9 38 rfl) rfl
theorem q2079 : (Jvm.Cond.code ({ cls := "MouldVotesModel", name := "first", desc := "(I)I" } : Jvm.MethodName) prog_12_method_86_code (3 : Nat) (Option.some Jvm.ClassFile.FieldType.int)) ∈ lw_all := lw_g (lw_at lw_m9 39 rfl) rfl
theorem q2081 : (Jvm.Cond.instanceMethod ({ cls := "MouldVotesModel", name := "rest", desc := "()I" } : Jvm.MethodName)) ∈ lw_all := lw_g (lw_at lw_m9 41 rfl) rfl
theorem q2082 : (Jvm.Cond.selects "MouldVotesModel" ({ cls := "MouldVotesModel", name := "rest", desc := "()I" } : Jvm.MethodName) ({ cls := "MouldVotesModel", name := "rest", desc := "()I" } : Jvm.MethodName)) ∈ lw_all := lw_g (lw_at lw_m9 42 rfl) rfl
theorem q2083 : (Jvm.Cond.code ({ cls := "MouldVotesModel", name := "rest", desc := "()I" } : Jvm.MethodName) prog_12_method_87_code (5 : Nat) (Option.some Jvm.ClassFile.FieldType.int)) ∈ lw_all := lw_g (lw_at lw_m9 43 rfl) rfl
theorem q2085 : (Jvm.Cond.instanceMethod ({ cls := "MouldVotesModel", name := "least", desc := "(III)I" } : Jvm.MethodName)) ∈ lw_all := lw_g (lw_at lw_m9 45 rfl) rfl
theorem q2086 : (Jvm.Cond.selects "MouldVotesModel" ({ cls := "MouldVotesModel", name := "least", desc := "(III)I" } : Jvm.MethodName) ({ cls := "MouldVotesModel", name := "least", desc := "(III)I" } : Jvm.MethodName)) ∈ lw_all := lw_g (lw_at lw_m9 46 rfl) rfl
theorem q2087 : (Jvm.Cond.code ({ cls := "MouldVotesModel", name := "least", desc := "(III)I" } : Jvm.MethodName) prog_12_method_89_code (5 : Nat) (Option.some Jvm.ClassFile.FieldType.int)) ∈ lw_all := lw_g (lw_at lw_m9 47 rfl) rfl
theorem q2088 : (Jvm.Cond.methodLink "MouldVotesModel" (415 : Nat) ({ cls := "MouldVotesModel", name := "breads", desc := "(II)V" } : Jvm.MethodName)) ∈ lw_all := lw_g (lw_at lw_m9 48 rfl) rfl
theorem q2089 : (Jvm.Cond.privateMethod ({ cls := "MouldVotesModel", name := "breads", desc := "(II)V" } : Jvm.MethodName)) ∈ lw_tbl := lw_at lw_m9 49 rfl
theorem q2090 : (Jvm.Cond.instanceMethod ({ cls := "MouldVotesModel", name := "breads", desc := "(II)V" } : Jvm.MethodName)) ∈ lw_all := lw_g (lw_at lw_m9 50 rfl) rfl
theorem q2091 : (Jvm.Cond.code ({ cls := "MouldVotesModel", name := "breads", desc := "(II)V" } : Jvm.MethodName) prog_12_method_88_code (3 : Nat) (Option.none : Option Jvm.ClassFile.FieldType)) ∈ lw_all := lw_g (lw_at lw_m9 51 rfl) rfl
theorem q2093 : (Jvm.Cond.instanceMethod ({ cls := "MouldVotesModel", name := "best", desc := "(II)I" } : Jvm.MethodName)) ∈ lw_all := lw_g (lw_at lw_m9 53 rfl) rfl
theorem q2094 : (Jvm.Cond.selects "MouldVotesModel" ({ cls := "MouldVotesModel", name := "best", desc := "(II)I" } : Jvm.MethodName) ({ cls := "MouldVotesModel", name := "best", desc := "(II)I" } : Jvm.MethodName)) ∈ lw_all := lw_g (lw_at lw_m9 54 rfl) rfl
theorem q2095 : (Jvm.Cond.code ({ cls := "MouldVotesModel", name := "best", desc := "(II)I" } : Jvm.MethodName) prog_12_method_90_code (7 : Nat) (Option.some Jvm.ClassFile.FieldType.int)) ∈ lw_all := lw_g (lw_at lw_m9 55 rfl) rfl
theorem q2097 : (Jvm.Cond.instanceMethod ({ cls := "MouldVotesModel", name := "frost", desc := "(II)I" } : Jvm.MethodName)) ∈ lw_all := lw_g (lw_at lw_m9 57 rfl) rfl
theorem q2098 : (Jvm.Cond.selects "MouldVotesModel" ({ cls := "MouldVotesModel", name := "frost", desc := "(II)I" } : Jvm.MethodName) ({ cls := "MouldVotesModel", name := "frost", desc := "(II)I" } : Jvm.MethodName)) ∈ lw_all := lw_g (lw_at lw_m9 58 rfl) rfl
theorem q2099 : (Jvm.Cond.code ({ cls := "MouldVotesModel", name := "frost", desc := "(II)I" } : Jvm.MethodName) prog_12_method_92_code (3 : Nat) (Option.some Jvm.ClassFile.FieldType.int)) ∈ lw_all := lw_g (lw_at lw_m9 59 rfl) rfl
theorem q2100 : (Jvm.Cond.methodLink "MouldVotesModel" (418 : Nat) ({ cls := "MouldVotesModel", name := "freezes", desc := "()V" } : Jvm.MethodName)) ∈ lw_all := lw_g (lw_at lw_m9 60 rfl) rfl
theorem q2101 : (Jvm.Cond.privateMethod ({ cls := "MouldVotesModel", name := "freezes", desc := "()V" } : Jvm.MethodName)) ∈ lw_tbl := lw_at lw_m9 61 rfl
theorem q2102 : (Jvm.Cond.instanceMethod ({ cls := "MouldVotesModel", name := "freezes", desc := "()V" } : Jvm.MethodName)) ∈ lw_all := lw_g (lw_at lw_m9 62 rfl) rfl
theorem q2103 : (Jvm.Cond.code ({ cls := "MouldVotesModel", name := "freezes", desc := "()V" } : Jvm.MethodName) prog_12_method_91_code (2 : Nat) (Option.none : Option Jvm.ClassFile.FieldType)) ∈ lw_all := lw_g (lw_at lw_m9 63 rfl) rfl
theorem q2105 : (Jvm.Cond.instanceMethod ({ cls := "MouldVotesModel", name := "counting", desc := "()I" } : Jvm.MethodName)) ∈ lw_all := lw_g (lw_at lw_m9 65 rfl) rfl
theorem q2106 : (Jvm.Cond.selects "MouldVotesModel" ({ cls := "MouldVotesModel", name := "counting", desc := "()I" } : Jvm.MethodName) ({ cls := "MouldVotesModel", name := "counting", desc := "()I" } : Jvm.MethodName)) ∈ lw_all := lw_g (lw_at lw_m9 66 rfl) rfl
theorem q2107 : (Jvm.Cond.code ({ cls := "MouldVotesModel", name := "counting", desc := "()I" } : Jvm.MethodName) prog_12_method_93_code (7 : Nat) (Option.some Jvm.ClassFile.FieldType.int)) ∈ lw_all := lw_g (lw_at lw_m9 67 rfl) rfl
theorem q2108 : (Jvm.Cond.constant "MouldVotesModel" (421 : Nat) (99999 : Int32)) ∈ lw_all := lw_g (lw_at lw_m9 68 rfl) rfl
theorem q2110 : (Jvm.Cond.instanceMethod ({ cls := "MouldVotesModel", name := "carry", desc := "()I" } : Jvm.MethodName)) ∈ lw_all := lw_g (lw_at lw_m9 70 rfl) rfl
theorem q2111 : (Jvm.Cond.selects "MouldVotesModel" ({ cls := "MouldVotesModel", name := "carry", desc := "()I" } : Jvm.MethodName) ({ cls := "MouldVotesModel", name := "carry", desc := "()I" } : Jvm.MethodName)) ∈ lw_all := lw_g (lw_at lw_m9 71 rfl) rfl
theorem q2112 : (Jvm.Cond.code ({ cls := "MouldVotesModel", name := "carry", desc := "()I" } : Jvm.MethodName) prog_12_method_96_code (3 : Nat) (Option.some Jvm.ClassFile.FieldType.int)) ∈ lw_all := lw_g (lw_at lw_m9 72 rfl) rfl
theorem q2113 : (Jvm.Cond.methodLink "MouldVotesModel" (425 : Nat) ({ cls := "MouldVotesModel", name := "doesCarry", desc := "(I)Z" } : Jvm.MethodName)) ∈ lw_all := lw_g (lw_at lw_m9 73 rfl) rfl
theorem q2114 : (Jvm.Cond.privateMethod ({ cls := "MouldVotesModel", name := "doesCarry", desc := "(I)Z" } : Jvm.MethodName)) ∈ lw_tbl := lw_at lw_m9 74 rfl
theorem q2115 : (Jvm.Cond.instanceMethod ({ cls := "MouldVotesModel", name := "doesCarry", desc := "(I)Z" } : Jvm.MethodName)) ∈ lw_all := lw_g (lw_at lw_m9 75 rfl) rfl
theorem q2116 : (Jvm.Cond.code ({ cls := "MouldVotesModel", name := "doesCarry", desc := "(I)Z" } : Jvm.MethodName) prog_12_method_95_code (2 : Nat) (Option.some Jvm.ClassFile.FieldType.boolean)) ∈ lw_all := lw_g (lw_at lw_m9 76 rfl) rfl
theorem q2117 : (Jvm.Cond.methodLink "MouldVotesModel" (422 : Nat) ({ cls := "MouldVotesModel", name := "votesOfSet", desc := "(I)I" } : Jvm.MethodName)) ∈ lw_all := lw_g (lw_at lw_m9 77 rfl) rfl
theorem q2118 : (Jvm.Cond.privateMethod ({ cls := "MouldVotesModel", name := "votesOfSet", desc := "(I)I" } : Jvm.MethodName)) ∈ lw_tbl := lw_at lw_m9 78 rfl
theorem q2119 : (Jvm.Cond.instanceMethod ({ cls := "MouldVotesModel", name := "votesOfSet", desc := "(I)I" } : Jvm.MethodName)) ∈ lw_all := lw_g (lw_at lw_m9 79 rfl) rfl
theorem q2120 : (Jvm.Cond.code ({ cls := "MouldVotesModel", name := "votesOfSet", desc := "(I)I" } : Jvm.MethodName) prog_12_method_94_code (4 : Nat) (Option.some Jvm.ClassFile.FieldType.int)) ∈ lw_all := lw_g (lw_at lw_m9 80 rfl) rfl
theorem q2121 : (Jvm.Cond.methodLink "MouldVotesModel" (428 : Nat) ({ cls := "MouldVotesModel", name := "bits", desc := "(I)I" } : Jvm.MethodName)) ∈ lw_all := lw_g (lw_at lw_m9 81 rfl) rfl
theorem q2122 : (Jvm.Cond.static ({ cls := "MouldVotesModel", name := "bits", desc := "(I)I" } : Jvm.MethodName)) ∈ lw_all := lw_g (lw_at lw_m9 82 rfl) rfl
theorem q2123 : (Jvm.Cond.code ({ cls := "MouldVotesModel", name := "bits", desc := "(I)I" } : Jvm.MethodName) prog_12_method_9_code (3 : Nat) (Option.some Jvm.ClassFile.FieldType.int)) ∈ lw_all := lw_g (lw_at lw_m9 83 rfl) rfl
theorem q2125 : (Jvm.Cond.instanceMethod ({ cls := "MouldVotesModel", name := "decisive", desc := "(I)I" } : Jvm.MethodName)) ∈ lw_all := lw_g (lw_at lw_m9 85 rfl) rfl
theorem q2126 : (Jvm.Cond.selects "MouldVotesModel" ({ cls := "MouldVotesModel", name := "decisive", desc := "(I)I" } : Jvm.MethodName) ({ cls := "MouldVotesModel", name := "decisive", desc := "(I)I" } : Jvm.MethodName)) ∈ lw_all := lw_g (lw_at lw_m9 86 rfl) rfl
theorem q2127 : (Jvm.Cond.code ({ cls := "MouldVotesModel", name := "decisive", desc := "(I)I" } : Jvm.MethodName) prog_12_method_97_code (4 : Nat) (Option.some Jvm.ClassFile.FieldType.int)) ∈ lw_all := lw_g (lw_at lw_m9 87 rfl) rfl
theorem q2129 : (Jvm.Cond.instanceMethod ({ cls := "MouldVotesModel", name := "see", desc := "(III)I" } : Jvm.MethodName)) ∈ lw_all := lw_g (lw_at lw_m9 89 rfl) rfl
theorem q2130 : (Jvm.Cond.selects "MouldVotesModel" ({ cls := "MouldVotesModel", name := "see", desc := "(III)I" } : Jvm.MethodName) ({ cls := "MouldVotesModel", name := "see", desc := "(III)I" } : Jvm.MethodName)) ∈ lw_all := lw_g (lw_at lw_m9 90 rfl) rfl
theorem q2131 : (Jvm.Cond.code ({ cls := "MouldVotesModel", name := "see", desc := "(III)I" } : Jvm.MethodName) prog_12_method_98_code (4 : Nat) (Option.some Jvm.ClassFile.FieldType.int)) ∈ lw_all := lw_g (lw_at lw_m9 91 rfl) rfl
theorem q2133 : (Jvm.Cond.instanceMethod ({ cls := "MouldVotesModel", name := "forget", desc := "()V" } : Jvm.MethodName)) ∈ lw_all := lw_g (lw_at lw_m9 93 rfl) rfl
theorem q2134 : (Jvm.Cond.selects "MouldVotesModel" ({ cls := "MouldVotesModel", name := "forget", desc := "()V" } : Jvm.MethodName) ({ cls := "MouldVotesModel", name := "forget", desc := "()V" } : Jvm.MethodName)) ∈ lw_all := lw_g (lw_at lw_m9 94 rfl) rfl
theorem q2135 : (Jvm.Cond.code ({ cls := "MouldVotesModel", name := "forget", desc := "()V" } : Jvm.MethodName) prog_12_method_99_code (1 : Nat) (Option.none : Option Jvm.ClassFile.FieldType)) ∈ lw_all := lw_g (lw_at lw_m9 95 rfl) rfl
theorem q2137 : (Jvm.Cond.instanceMethod ({ cls := "MouldVotesModel", name := "sown", desc := "(I)I" } : Jvm.MethodName)) ∈ lw_all := lw_g (lw_at lw_m9 97 rfl) rfl
theorem q2138 : (Jvm.Cond.selects "MouldVotesModel" ({ cls := "MouldVotesModel", name := "sown", desc := "(I)I" } : Jvm.MethodName) ({ cls := "MouldVotesModel", name := "sown", desc := "(I)I" } : Jvm.MethodName)) ∈ lw_all := lw_g (lw_at lw_m9 98 rfl) rfl
theorem q2139 : (Jvm.Cond.code ({ cls := "MouldVotesModel", name := "sown", desc := "(I)I" } : Jvm.MethodName) prog_12_method_102_code (5 : Nat) (Option.some Jvm.ClassFile.FieldType.int)) ∈ lw_all := lw_g (lw_at lw_m9 99 rfl) rfl
theorem q2140 : (Jvm.Cond.methodLink "MouldVotesModel" (431 : Nat) ({ cls := "MouldVotesModel", name := "isSeen", desc := "()Z" } : Jvm.MethodName)) ∈ lw_all := lw_g (lw_at lw_m9 100 rfl) rfl
theorem q2141 : (Jvm.Cond.privateMethod ({ cls := "MouldVotesModel", name := "isSeen", desc := "()Z" } : Jvm.MethodName)) ∈ lw_tbl := lw_at lw_m9 101 rfl
theorem q2142 : (Jvm.Cond.instanceMethod ({ cls := "MouldVotesModel", name := "isSeen", desc := "()Z" } : Jvm.MethodName)) ∈ lw_all := lw_g (lw_at lw_m9 102 rfl) rfl
theorem q2143 : (Jvm.Cond.code ({ cls := "MouldVotesModel", name := "isSeen", desc := "()Z" } : Jvm.MethodName) prog_12_method_100_code (3 : Nat) (Option.some Jvm.ClassFile.FieldType.boolean)) ∈ lw_all := lw_g (lw_at lw_m9 103 rfl) rfl
theorem q2144 : (Jvm.Cond.methodLink "MouldVotesModel" (434 : Nat) ({ cls := "MouldVotesModel", name := "isGuess", desc := "(I)Z" } : Jvm.MethodName)) ∈ lw_all := lw_g (lw_at lw_m9 104 rfl) rfl
theorem q2145 : (Jvm.Cond.privateMethod ({ cls := "MouldVotesModel", name := "isGuess", desc := "(I)Z" } : Jvm.MethodName)) ∈ lw_tbl := lw_at lw_m9 105 rfl
theorem q2146 : (Jvm.Cond.instanceMethod ({ cls := "MouldVotesModel", name := "isGuess", desc := "(I)Z" } : Jvm.MethodName)) ∈ lw_all := lw_g (lw_at lw_m9 106 rfl) rfl
theorem q2147 : (Jvm.Cond.code ({ cls := "MouldVotesModel", name := "isGuess", desc := "(I)Z" } : Jvm.MethodName) prog_12_method_101_code (3 : Nat) (Option.some Jvm.ClassFile.FieldType.boolean)) ∈ lw_all := lw_g (lw_at lw_m9 107 rfl) rfl
theorem q2149 : (Jvm.Cond.instanceMethod ({ cls := "MouldVotesModel", name := "next", desc := "(I)I" } : Jvm.MethodName)) ∈ lw_all := lw_g (lw_at lw_m9 109 rfl) rfl
theorem q2150 : (Jvm.Cond.selects "MouldVotesModel" ({ cls := "MouldVotesModel", name := "next", desc := "(I)I" } : Jvm.MethodName) ({ cls := "MouldVotesModel", name := "next", desc := "(I)I" } : Jvm.MethodName)) ∈ lw_all := lw_g (lw_at lw_m9 110 rfl) rfl
theorem q2151 : (Jvm.Cond.code ({ cls := "MouldVotesModel", name := "next", desc := "(I)I" } : Jvm.MethodName) prog_12_method_103_code (10 : Nat) (Option.some Jvm.ClassFile.FieldType.int)) ∈ lw_all := lw_g (lw_at lw_m9 111 rfl) rfl
theorem q2153 : (Jvm.Cond.instanceMethod ({ cls := "MouldVotesModel", name := "frosts", desc := "(III)I" } : Jvm.MethodName)) ∈ lw_all := lw_g (lw_at lw_m9 113 rfl) rfl
theorem q2154 : (Jvm.Cond.selects "MouldVotesModel" ({ cls := "MouldVotesModel", name := "frosts", desc := "(III)I" } : Jvm.MethodName) ({ cls := "MouldVotesModel", name := "frosts", desc := "(III)I" } : Jvm.MethodName)) ∈ lw_all := lw_g (lw_at lw_m9 114 rfl) rfl
theorem q2155 : (Jvm.Cond.code ({ cls := "MouldVotesModel", name := "frosts", desc := "(III)I" } : Jvm.MethodName) prog_12_method_104_code (8 : Nat) (Option.some Jvm.ClassFile.FieldType.int)) ∈ lw_all := lw_g (lw_at lw_m9 115 rfl) rfl
theorem q2157 : (Jvm.Cond.instanceMethod ({ cls := "MouldVotesModel", name := "game", desc := "(III)I" } : Jvm.MethodName)) ∈ lw_all := lw_g (lw_at lw_m9 117 rfl) rfl
theorem q2158 : (Jvm.Cond.selects "MouldVotesModel" ({ cls := "MouldVotesModel", name := "game", desc := "(III)I" } : Jvm.MethodName) ({ cls := "MouldVotesModel", name := "game", desc := "(III)I" } : Jvm.MethodName)) ∈ lw_all := lw_g (lw_at lw_m9 118 rfl) rfl
theorem q2159 : (Jvm.Cond.code ({ cls := "MouldVotesModel", name := "game", desc := "(III)I" } : Jvm.MethodName) prog_12_method_108_code (9 : Nat) (Option.some Jvm.ClassFile.FieldType.int)) ∈ lw_all := lw_g (lw_at lw_m9 119 rfl) rfl
theorem q2160 : (Jvm.Cond.methodLink "MouldVotesModel" (443 : Nat) ({ cls := "MouldVotesModel", name := "gains", desc := "(IIII)I" } : Jvm.MethodName)) ∈ lw_all := lw_g (lw_at lw_m9 120 rfl) rfl
theorem q2161 : (Jvm.Cond.privateMethod ({ cls := "MouldVotesModel", name := "gains", desc := "(IIII)I" } : Jvm.MethodName)) ∈ lw_tbl := lw_at lw_m9 121 rfl
theorem q2162 : (Jvm.Cond.instanceMethod ({ cls := "MouldVotesModel", name := "gains", desc := "(IIII)I" } : Jvm.MethodName)) ∈ lw_all := lw_g (lw_at lw_m9 122 rfl) rfl
theorem q2163 : (Jvm.Cond.code ({ cls := "MouldVotesModel", name := "gains", desc := "(IIII)I" } : Jvm.MethodName) prog_12_method_107_code (5 : Nat) (Option.some Jvm.ClassFile.FieldType.int)) ∈ lw_all := lw_g (lw_at lw_m9 123 rfl) rfl
theorem q2164 : (Jvm.Cond.methodLink "MouldVotesModel" (440 : Nat) ({ cls := "MouldVotesModel", name := "gives", desc := "(II)V" } : Jvm.MethodName)) ∈ lw_all := lw_g (lw_at lw_m9 124 rfl) rfl
theorem q2165 : (Jvm.Cond.privateMethod ({ cls := "MouldVotesModel", name := "gives", desc := "(II)V" } : Jvm.MethodName)) ∈ lw_tbl := lw_at lw_m9 125 rfl
theorem q2166 : (Jvm.Cond.instanceMethod ({ cls := "MouldVotesModel", name := "gives", desc := "(II)V" } : Jvm.MethodName)) ∈ lw_all := lw_g (lw_at lw_m9 126 rfl) rfl
theorem q2167 : (Jvm.Cond.code ({ cls := "MouldVotesModel", name := "gives", desc := "(II)V" } : Jvm.MethodName) prog_12_method_106_code (4 : Nat) (Option.none : Option Jvm.ClassFile.FieldType)) ∈ lw_all := lw_g (lw_at lw_m9 127 rfl) rfl
theorem q2168 : (Jvm.Cond.methodLink "MouldVotesModel" (437 : Nat) ({ cls := "MouldVotesModel", name := "greatestOf", desc := "(I)I" } : Jvm.MethodName)) ∈ lw_all := lw_g (lw_at lw_m9 128 rfl) rfl
theorem q2169 : (Jvm.Cond.privateMethod ({ cls := "MouldVotesModel", name := "greatestOf", desc := "(I)I" } : Jvm.MethodName)) ∈ lw_tbl := lw_at lw_m9 129 rfl
theorem q2170 : (Jvm.Cond.instanceMethod ({ cls := "MouldVotesModel", name := "greatestOf", desc := "(I)I" } : Jvm.MethodName)) ∈ lw_all := lw_g (lw_at lw_m9 130 rfl) rfl
theorem q2171 : (Jvm.Cond.code ({ cls := "MouldVotesModel", name := "greatestOf", desc := "(I)I" } : Jvm.MethodName) prog_12_method_105_code (4 : Nat) (Option.some Jvm.ClassFile.FieldType.int)) ∈ lw_all := lw_g (lw_at lw_m9 131 rfl) rfl
theorem q2173 : (Jvm.Cond.instanceMethod ({ cls := "MouldVotesModel", name := "drawn", desc := "(III)I" } : Jvm.MethodName)) ∈ lw_all := lw_g (lw_at lw_m9 133 rfl) rfl
theorem q2174 : (Jvm.Cond.selects "MouldVotesModel" ({ cls := "MouldVotesModel", name := "drawn", desc := "(III)I" } : Jvm.MethodName) ({ cls := "MouldVotesModel", name := "drawn", desc := "(III)I" } : Jvm.MethodName)) ∈ lw_all := lw_g (lw_at lw_m9 134 rfl) rfl
theorem q2175 : (Jvm.Cond.code ({ cls := "MouldVotesModel", name := "drawn", desc := "(III)I" } : Jvm.MethodName) prog_12_method_111_code (6 : Nat) (Option.some Jvm.ClassFile.FieldType.int)) ∈ lw_all := lw_g (lw_at lw_m9 135 rfl) rfl
theorem q2176 : (Jvm.Cond.methodLink "MouldVotesModel" (454 : Nat) ({ cls := "MouldVotesModel", name := "happens", desc := "()V" } : Jvm.MethodName)) ∈ lw_all := lw_g (lw_at lw_m9 136 rfl) rfl
theorem q2177 : (Jvm.Cond.privateMethod ({ cls := "MouldVotesModel", name := "happens", desc := "()V" } : Jvm.MethodName)) ∈ lw_tbl := lw_at lw_m9 137 rfl
theorem q2178 : (Jvm.Cond.instanceMethod ({ cls := "MouldVotesModel", name := "happens", desc := "()V" } : Jvm.MethodName)) ∈ lw_all := lw_g (lw_at lw_m9 138 rfl) rfl
theorem q2179 : (Jvm.Cond.code ({ cls := "MouldVotesModel", name := "happens", desc := "()V" } : Jvm.MethodName) prog_12_method_110_code (4 : Nat) (Option.none : Option Jvm.ClassFile.FieldType)) ∈ lw_all := lw_g (lw_at lw_m9 139 rfl) rfl
theorem q2180 : (Jvm.Cond.methodLink "MouldVotesModel" (451 : Nat) ({ cls := "MouldVotesModel", name := "draw", desc := "(I)I" } : Jvm.MethodName)) ∈ lw_all := lw_g (lw_at lw_m9 140 rfl) rfl
theorem q2181 : (Jvm.Cond.privateMethod ({ cls := "MouldVotesModel", name := "draw", desc := "(I)I" } : Jvm.MethodName)) ∈ lw_tbl := lw_at lw_m9 141 rfl
theorem q2182 : (Jvm.Cond.instanceMethod ({ cls := "MouldVotesModel", name := "draw", desc := "(I)I" } : Jvm.MethodName)) ∈ lw_all := lw_g (lw_at lw_m9 142 rfl) rfl
theorem q2183 : (Jvm.Cond.code ({ cls := "MouldVotesModel", name := "draw", desc := "(I)I" } : Jvm.MethodName) prog_12_method_109_code (2 : Nat) (Option.some Jvm.ClassFile.FieldType.int)) ∈ lw_all := lw_g (lw_at lw_m9 143 rfl) rfl
theorem q2184 : (Jvm.Cond.constant "MouldVotesModel" (450 : Nat) (1103515245 : Int32)) ∈ lw_all := lw_g (lw_at lw_m9 144 rfl) rfl
theorem q2186 : (Jvm.Cond.instanceMethod ({ cls := "MouldVotesModel", name := "fronts", desc := "(I)I" } : Jvm.MethodName)) ∈ lw_all := lw_g (lw_at lw_m9 146 rfl) rfl
theorem q2187 : (Jvm.Cond.selects "MouldVotesModel" ({ cls := "MouldVotesModel", name := "fronts", desc := "(I)I" } : Jvm.MethodName) ({ cls := "MouldVotesModel", name := "fronts", desc := "(I)I" } : Jvm.MethodName)) ∈ lw_all := lw_g (lw_at lw_m9 147 rfl) rfl
theorem q2188 : (Jvm.Cond.code ({ cls := "MouldVotesModel", name := "fronts", desc := "(I)I" } : Jvm.MethodName) prog_12_method_112_code (4 : Nat) (Option.some Jvm.ClassFile.FieldType.int)) ∈ lw_all := lw_g (lw_at lw_m9 148 rfl) rfl
theorem q2190 : (Jvm.Cond.instanceMethod ({ cls := "MouldVotesModel", name := "lost", desc := "(I)I" } : Jvm.MethodName)) ∈ lw_all := lw_g (lw_at lw_m9 150 rfl) rfl
theorem q2191 : (Jvm.Cond.selects "MouldVotesModel" ({ cls := "MouldVotesModel", name := "lost", desc := "(I)I" } : Jvm.MethodName) ({ cls := "MouldVotesModel", name := "lost", desc := "(I)I" } : Jvm.MethodName)) ∈ lw_all := lw_g (lw_at lw_m9 151 rfl) rfl
theorem q2192 : (Jvm.Cond.code ({ cls := "MouldVotesModel", name := "lost", desc := "(I)I" } : Jvm.MethodName) prog_12_method_113_code (4 : Nat) (Option.some Jvm.ClassFile.FieldType.int)) ∈ lw_all := lw_g (lw_at lw_m9 152 rfl) rfl
theorem q2194 : (Jvm.Cond.instanceMethod ({ cls := "MouldVotesModel", name := "starved", desc := "(I)I" } : Jvm.MethodName)) ∈ lw_all := lw_g (lw_at lw_m9 154 rfl) rfl
theorem q2195 : (Jvm.Cond.selects "MouldVotesModel" ({ cls := "MouldVotesModel", name := "starved", desc := "(I)I" } : Jvm.MethodName) ({ cls := "MouldVotesModel", name := "starved", desc := "(I)I" } : Jvm.MethodName)) ∈ lw_all := lw_g (lw_at lw_m9 155 rfl) rfl
theorem q2196 : (Jvm.Cond.code ({ cls := "MouldVotesModel", name := "starved", desc := "(I)I" } : Jvm.MethodName) prog_12_method_114_code (4 : Nat) (Option.some Jvm.ClassFile.FieldType.int)) ∈ lw_all := lw_g (lw_at lw_m9 156 rfl) rfl
theorem q2198 : (Jvm.Cond.instanceMethod ({ cls := "MouldVotesModel", name := "margin", desc := "(I)I" } : Jvm.MethodName)) ∈ lw_all := lw_g (lw_at lw_m9 158 rfl) rfl
theorem q2199 : (Jvm.Cond.selects "MouldVotesModel" ({ cls := "MouldVotesModel", name := "margin", desc := "(I)I" } : Jvm.MethodName) ({ cls := "MouldVotesModel", name := "margin", desc := "(I)I" } : Jvm.MethodName)) ∈ lw_all := lw_g (lw_at lw_m9 159 rfl) rfl
theorem q2200 : (Jvm.Cond.code ({ cls := "MouldVotesModel", name := "margin", desc := "(I)I" } : Jvm.MethodName) prog_12_method_115_code (5 : Nat) (Option.some Jvm.ClassFile.FieldType.int)) ∈ lw_all := lw_g (lw_at lw_m9 160 rfl) rfl
theorem q2202 : (Jvm.Cond.instanceMethod ({ cls := "MouldVotesModel", name := "patch", desc := "(I)I" } : Jvm.MethodName)) ∈ lw_all := lw_g (lw_at lw_m9 162 rfl) rfl
theorem q2203 : (Jvm.Cond.selects "MouldVotesModel" ({ cls := "MouldVotesModel", name := "patch", desc := "(I)I" } : Jvm.MethodName) ({ cls := "MouldVotesModel", name := "patch", desc := "(I)I" } : Jvm.MethodName)) ∈ lw_all := lw_g (lw_at lw_m9 163 rfl) rfl
theorem q2204 : (Jvm.Cond.code ({ cls := "MouldVotesModel", name := "patch", desc := "(I)I" } : Jvm.MethodName) prog_12_method_117_code (2 : Nat) (Option.some Jvm.ClassFile.FieldType.int)) ∈ lw_all := lw_g (lw_at lw_m9 164 rfl) rfl
theorem q2205 : (Jvm.Cond.methodLink "MouldVotesModel" (457 : Nat) ({ cls := "MouldVotesModel", name := "patchOf", desc := "(I)I" } : Jvm.MethodName)) ∈ lw_all := lw_g (lw_at lw_m9 165 rfl) rfl
theorem q2206 : (Jvm.Cond.privateMethod ({ cls := "MouldVotesModel", name := "patchOf", desc := "(I)I" } : Jvm.MethodName)) ∈ lw_tbl := lw_at lw_m9 166 rfl
theorem q2207 : (Jvm.Cond.instanceMethod ({ cls := "MouldVotesModel", name := "patchOf", desc := "(I)I" } : Jvm.MethodName)) ∈ lw_all := lw_g (lw_at lw_m9 167 rfl) rfl
theorem q2208 : (Jvm.Cond.code ({ cls := "MouldVotesModel", name := "patchOf", desc := "(I)I" } : Jvm.MethodName) prog_12_method_116_code (6 : Nat) (Option.some Jvm.ClassFile.FieldType.int)) ∈ lw_all := lw_g (lw_at lw_m9 168 rfl) rfl
theorem q2210 : (Jvm.Cond.instanceMethod ({ cls := "MouldVotesModel", name := "greatest", desc := "(II)I" } : Jvm.MethodName)) ∈ lw_all := lw_g (lw_at lw_m9 170 rfl) rfl
theorem q2211 : (Jvm.Cond.selects "MouldVotesModel" ({ cls := "MouldVotesModel", name := "greatest", desc := "(II)I" } : Jvm.MethodName) ({ cls := "MouldVotesModel", name := "greatest", desc := "(II)I" } : Jvm.MethodName)) ∈ lw_all := lw_g (lw_at lw_m9 171 rfl) rfl
theorem q2212 : (Jvm.Cond.code ({ cls := "MouldVotesModel", name := "greatest", desc := "(II)I" } : Jvm.MethodName) prog_12_method_118_code (9 : Nat) (Option.some Jvm.ClassFile.FieldType.int)) ∈ lw_all := lw_g (lw_at lw_m9 172 rfl) rfl
theorem q2214 : (Jvm.Cond.instanceMethod ({ cls := "MouldVotesModel", name := "keep", desc := "(I)I" } : Jvm.MethodName)) ∈ lw_all := lw_g (lw_at lw_m9 174 rfl) rfl
theorem q2215 : (Jvm.Cond.selects "MouldVotesModel" ({ cls := "MouldVotesModel", name := "keep", desc := "(I)I" } : Jvm.MethodName) ({ cls := "MouldVotesModel", name := "keep", desc := "(I)I" } : Jvm.MethodName)) ∈ lw_all := lw_g (lw_at lw_m9 175 rfl) rfl
theorem q2216 : (Jvm.Cond.code ({ cls := "MouldVotesModel", name := "keep", desc := "(I)I" } : Jvm.MethodName) prog_12_method_119_code (3 : Nat) (Option.some Jvm.ClassFile.FieldType.int)) ∈ lw_all := lw_g (lw_at lw_m9 176 rfl) rfl
theorem q2218 : (Jvm.Cond.instanceMethod ({ cls := "MouldVotesModel", name := "harm", desc := "(II)I" } : Jvm.MethodName)) ∈ lw_all := lw_g (lw_at lw_m9 178 rfl) rfl
theorem q2219 : (Jvm.Cond.selects "MouldVotesModel" ({ cls := "MouldVotesModel", name := "harm", desc := "(II)I" } : Jvm.MethodName) ({ cls := "MouldVotesModel", name := "harm", desc := "(II)I" } : Jvm.MethodName)) ∈ lw_all := lw_g (lw_at lw_m9 179 rfl) rfl
theorem q2220 : (Jvm.Cond.code ({ cls := "MouldVotesModel", name := "harm", desc := "(II)I" } : Jvm.MethodName) prog_12_method_120_code (7 : Nat) (Option.some Jvm.ClassFile.FieldType.int)) ∈ lw_all := lw_g (lw_at lw_m9 180 rfl) rfl
theorem q2222 : (Jvm.Cond.instanceMethod ({ cls := "MouldVotesModel", name := "image", desc := "()V" } : Jvm.MethodName)) ∈ lw_all := lw_g (lw_at lw_m9 182 rfl) rfl
theorem q2223 : (Jvm.Cond.selects "MouldVotesModel" ({ cls := "MouldVotesModel", name := "image", desc := "()V" } : Jvm.MethodName) ({ cls := "MouldVotesModel", name := "image", desc := "()V" } : Jvm.MethodName)) ∈ lw_all := lw_g (lw_at lw_m9 183 rfl) rfl
theorem q2224 : (Jvm.Cond.code ({ cls := "MouldVotesModel", name := "image", desc := "()V" } : Jvm.MethodName) prog_12_method_121_code (2 : Nat) (Option.none : Option Jvm.ClassFile.FieldType)) ∈ lw_all := lw_g (lw_at lw_m9 184 rfl) rfl
theorem q2226 : (Jvm.Cond.instanceMethod ({ cls := "MouldVotesModel", name := "restore", desc := "()Z" } : Jvm.MethodName)) ∈ lw_all := lw_g (lw_at lw_m9 186 rfl) rfl
theorem q2227 : (Jvm.Cond.selects "MouldVotesModel" ({ cls := "MouldVotesModel", name := "restore", desc := "()Z" } : Jvm.MethodName) ({ cls := "MouldVotesModel", name := "restore", desc := "()Z" } : Jvm.MethodName)) ∈ lw_all := lw_g (lw_at lw_m9 187 rfl) rfl
theorem q2228 : (Jvm.Cond.code ({ cls := "MouldVotesModel", name := "restore", desc := "()Z" } : Jvm.MethodName) prog_12_method_122_code (2 : Nat) (Option.some Jvm.ClassFile.FieldType.boolean)) ∈ lw_all := lw_g (lw_at lw_m9 188 rfl) rfl
theorem q2242 : (Jvm.Cond.castable "MouldVotesModel" "java/lang/Object") ∈ lw_tbl := lw_at lw_m9 202 rfl
theorem fX4_7 : xFld RX4 7 3 1 .int false := ⟨RX4, TX4, 64, tyX4, "MouldVotesModel", clX4, Nat.le_of_ble_eq_true rfl, Or.inl q1564, Or.inl rfl, rfl, rfl, fun _ => rfl⟩
theorem fX4_13 : xFld RX4 13 3 2 .int false := ⟨RX4, TX4, 64, tyX4, "MouldVotesModel", clX4, Nat.le_of_ble_eq_true rfl, Or.inl q1565, Or.inl rfl, rfl, rfl, fun _ => rfl⟩
theorem fX4_16 : xFld RX4 16 3 5 .int false := ⟨RX4, TX4, 64, tyX4, "MouldVotesModel", clX4, Nat.le_of_ble_eq_true rfl, Or.inl q1568, Or.inl rfl, rfl, rfl, fun _ => rfl⟩
theorem fX4_19 : xFld RX4 19 3 6 .int false := ⟨RX4, TX4, 64, tyX4, "MouldVotesModel", clX4, Nat.le_of_ble_eq_true rfl, Or.inl q1569, Or.inl rfl, rfl, rfl, fun _ => rfl⟩
theorem fX4_22 : xFld RX4 22 3 7 .int false := ⟨RX4, TX4, 64, tyX4, "MouldVotesModel", clX4, Nat.le_of_ble_eq_true rfl, Or.inl q1570, Or.inl rfl, rfl, rfl, fun _ => rfl⟩
theorem fX4_25 : xFld RX4 25 3 8 .int false := ⟨RX4, TX4, 64, tyX4, "MouldVotesModel", clX4, Nat.le_of_ble_eq_true rfl, Or.inl q1571, Or.inl rfl, rfl, rfl, fun _ => rfl⟩
theorem fX4_28 : xFld RX4 28 3 9 (.array .int) true := ⟨RX4, TX4, 64, tyX4, "MouldVotesModel", clX4, Nat.le_of_ble_eq_true rfl, Or.inl q1572, Or.inl rfl, rfl, rfl, fun _ => rfl⟩
theorem fX4_32 : xFld RX4 32 3 10 (.array .int) true := ⟨RX4, TX4, 64, tyX4, "MouldVotesModel", clX4, Nat.le_of_ble_eq_true rfl, Or.inl q1573, Or.inl rfl, rfl, rfl, fun _ => rfl⟩
theorem fX4_35 : xFld RX4 35 3 11 (.array .int) true := ⟨RX4, TX4, 64, tyX4, "MouldVotesModel", clX4, Nat.le_of_ble_eq_true rfl, Or.inl q1574, Or.inl rfl, rfl, rfl, fun _ => rfl⟩
theorem fX4_38 : xFld RX4 38 3 12 (.array .int) true := ⟨RX4, TX4, 64, tyX4, "MouldVotesModel", clX4, Nat.le_of_ble_eq_true rfl, Or.inl q1575, Or.inl rfl, rfl, rfl, fun _ => rfl⟩
theorem fX4_41 : xFld RX4 41 3 15 .int false := ⟨RX4, TX4, 64, tyX4, "MouldVotesModel", clX4, Nat.le_of_ble_eq_true rfl, Or.inl q1578, Or.inl rfl, rfl, rfl, fun _ => rfl⟩
theorem fX4_44 : xFld RX4 44 3 16 (.array .int) true := ⟨RX4, TX4, 64, tyX4, "MouldVotesModel", clX4, Nat.le_of_ble_eq_true rfl, Or.inl q1579, Or.inl rfl, rfl, rfl, fun _ => rfl⟩
theorem fX4_47 : xFld RX4 47 3 37 (.array .int) true := ⟨RX4, TX4, 64, tyX4, "MouldVotesModel", clX4, Nat.le_of_ble_eq_true rfl, Or.inl q1600, Or.inl rfl, rfl, rfl, fun _ => rfl⟩
theorem fX4_50 : xFld RX4 50 3 38 (.array .int) true := ⟨RX4, TX4, 64, tyX4, "MouldVotesModel", clX4, Nat.le_of_ble_eq_true rfl, Or.inl q1601, Or.inl rfl, rfl, rfl, fun _ => rfl⟩
theorem fX4_53 : xFld RX4 53 3 39 (.array .int) true := ⟨RX4, TX4, 64, tyX4, "MouldVotesModel", clX4, Nat.le_of_ble_eq_true rfl, Or.inl q1602, Or.inl rfl, rfl, rfl, fun _ => rfl⟩
theorem fX4_56 : xFld RX4 56 3 40 (.array .int) true := ⟨RX4, TX4, 64, tyX4, "MouldVotesModel", clX4, Nat.le_of_ble_eq_true rfl, Or.inl q1603, Or.inl rfl, rfl, rfl, fun _ => rfl⟩
theorem fX4_59 : xFld RX4 59 3 41 (.array .int) true := ⟨RX4, TX4, 64, tyX4, "MouldVotesModel", clX4, Nat.le_of_ble_eq_true rfl, Or.inl q1604, Or.inl rfl, rfl, rfl, fun _ => rfl⟩
theorem fX4_62 : xFld RX4 62 3 42 (.array .boolean) true := ⟨RX4, TX4, 64, tyX4, "MouldVotesModel", clX4, Nat.le_of_ble_eq_true rfl, Or.inl q1605, Or.inl rfl, rfl, rfl, fun _ => rfl⟩
theorem fX4_66 : xFld RX4 66 3 43 (.array .boolean) true := ⟨RX4, TX4, 64, tyX4, "MouldVotesModel", clX4, Nat.le_of_ble_eq_true rfl, Or.inl q1606, Or.inl rfl, rfl, rfl, fun _ => rfl⟩
theorem fX4_69 : xFld RX4 69 3 44 (.array .int) true := ⟨RX4, TX4, 64, tyX4, "MouldVotesModel", clX4, Nat.le_of_ble_eq_true rfl, Or.inl q1607, Or.inl rfl, rfl, rfl, fun _ => rfl⟩
theorem fX4_72 : xFld RX4 72 3 45 (.array .int) true := ⟨RX4, TX4, 64, tyX4, "MouldVotesModel", clX4, Nat.le_of_ble_eq_true rfl, Or.inl q1608, Or.inl rfl, rfl, rfl, fun _ => rfl⟩
theorem fX4_75 : xFld RX4 75 3 47 (.array .int) true := ⟨RX4, TX4, 64, tyX4, "MouldVotesModel", clX4, Nat.le_of_ble_eq_true rfl, Or.inl q1610, Or.inl rfl, rfl, rfl, fun _ => rfl⟩
theorem fX4_78 : xFld RX4 78 3 48 (.array .int) true := ⟨RX4, TX4, 64, tyX4, "MouldVotesModel", clX4, Nat.le_of_ble_eq_true rfl, Or.inl q1611, Or.inl rfl, rfl, rfl, fun _ => rfl⟩
theorem fX4_81 : xFld RX4 81 3 49 (.array .int) true := ⟨RX4, TX4, 64, tyX4, "MouldVotesModel", clX4, Nat.le_of_ble_eq_true rfl, Or.inl q1612, Or.inl rfl, rfl, rfl, fun _ => rfl⟩
theorem fX4_84 : xFld RX4 84 3 50 (.array .int) true := ⟨RX4, TX4, 64, tyX4, "MouldVotesModel", clX4, Nat.le_of_ble_eq_true rfl, Or.inl q1613, Or.inl rfl, rfl, rfl, fun _ => rfl⟩
theorem fX4_87 : xFld RX4 87 3 51 (.array .int) true := ⟨RX4, TX4, 64, tyX4, "MouldVotesModel", clX4, Nat.le_of_ble_eq_true rfl, Or.inl q1614, Or.inl rfl, rfl, rfl, fun _ => rfl⟩
theorem fX4_90 : xFld RX4 90 3 52 (.array .int) true := ⟨RX4, TX4, 64, tyX4, "MouldVotesModel", clX4, Nat.le_of_ble_eq_true rfl, Or.inl q1615, Or.inl rfl, rfl, rfl, fun _ => rfl⟩
theorem fX4_93 : xFld RX4 93 3 54 (.array .int) true := ⟨RX4, TX4, 64, tyX4, "MouldVotesModel", clX4, Nat.le_of_ble_eq_true rfl, Or.inl q1617, Or.inl rfl, rfl, rfl, fun _ => rfl⟩
theorem fX4_96 : xFld RX4 96 3 55 (.array .int) true := ⟨RX4, TX4, 64, tyX4, "MouldVotesModel", clX4, Nat.le_of_ble_eq_true rfl, Or.inl q1618, Or.inl rfl, rfl, rfl, fun _ => rfl⟩
theorem fX4_99 : xFld RX4 99 3 56 (.array .int) true := ⟨RX4, TX4, 64, tyX4, "MouldVotesModel", clX4, Nat.le_of_ble_eq_true rfl, Or.inl q1619, Or.inl rfl, rfl, rfl, fun _ => rfl⟩
theorem fX4_102 : xFld RX4 102 3 61 (.array .int) true := ⟨RX4, TX4, 64, tyX4, "MouldVotesModel", clX4, Nat.le_of_ble_eq_true rfl, Or.inl q1624, Or.inl rfl, rfl, rfl, fun _ => rfl⟩
theorem fX4_105 : xFld RX4 105 3 62 (.array .int) true := ⟨RX4, TX4, 64, tyX4, "MouldVotesModel", clX4, Nat.le_of_ble_eq_true rfl, Or.inl q1625, Or.inl rfl, rfl, rfl, fun _ => rfl⟩
theorem fX4_108 : xFld RX4 108 3 63 (.array .int) true := ⟨RX4, TX4, 64, tyX4, "MouldVotesModel", clX4, Nat.le_of_ble_eq_true rfl, Or.inl q1626, Or.inl rfl, rfl, rfl, fun _ => rfl⟩
theorem fX4_115 : xFld RX4 115 3 0 .int false := ⟨RX4, TX4, 64, tyX4, "MouldVotesModel", clX4, Nat.le_of_ble_eq_true rfl, Or.inl q1563, Or.inl rfl, rfl, rfl, fun _ => rfl⟩
theorem fX4_118 : xFld RX4 118 3 13 .int false := ⟨RX4, TX4, 64, tyX4, "MouldVotesModel", clX4, Nat.le_of_ble_eq_true rfl, Or.inl q1576, Or.inl rfl, rfl, rfl, fun _ => rfl⟩
theorem fX4_125 : xFld RX4 125 3 17 .int false := ⟨RX4, TX4, 64, tyX4, "MouldVotesModel", clX4, Nat.le_of_ble_eq_true rfl, Or.inl q1580, Or.inl rfl, rfl, rfl, fun _ => rfl⟩
theorem fX4_128 : xFld RX4 128 3 18 .int false := ⟨RX4, TX4, 64, tyX4, "MouldVotesModel", clX4, Nat.le_of_ble_eq_true rfl, Or.inl q1581, Or.inl rfl, rfl, rfl, fun _ => rfl⟩
theorem fX4_135 : xFld RX4 135 3 20 .int false := ⟨RX4, TX4, 64, tyX4, "MouldVotesModel", clX4, Nat.le_of_ble_eq_true rfl, Or.inl q1583, Or.inl rfl, rfl, rfl, fun _ => rfl⟩
theorem fX4_138 : xFld RX4 138 3 24 .long false := ⟨RX4, TX4, 64, tyX4, "MouldVotesModel", clX4, Nat.le_of_ble_eq_true rfl, Or.inl q1587, Or.inl rfl, rfl, rfl, fun _ => rfl⟩
theorem fX4_142 : xFld RX4 142 3 22 .int false := ⟨RX4, TX4, 64, tyX4, "MouldVotesModel", clX4, Nat.le_of_ble_eq_true rfl, Or.inl q1585, Or.inl rfl, rfl, rfl, fun _ => rfl⟩
theorem fX4_145 : xFld RX4 145 3 23 .int false := ⟨RX4, TX4, 64, tyX4, "MouldVotesModel", clX4, Nat.le_of_ble_eq_true rfl, Or.inl q1586, Or.inl rfl, rfl, rfl, fun _ => rfl⟩
theorem fX4_148 : xFld RX4 148 3 19 .int false := ⟨RX4, TX4, 64, tyX4, "MouldVotesModel", clX4, Nat.le_of_ble_eq_true rfl, Or.inl q1582, Or.inl rfl, rfl, rfl, fun _ => rfl⟩
theorem fX4_158 : xFld RX4 158 3 21 .int false := ⟨RX4, TX4, 64, tyX4, "MouldVotesModel", clX4, Nat.le_of_ble_eq_true rfl, Or.inl q1584, Or.inl rfl, rfl, rfl, fun _ => rfl⟩
theorem fX4_171 : xFld RX4 171 3 14 .int false := ⟨RX4, TX4, 64, tyX4, "MouldVotesModel", clX4, Nat.le_of_ble_eq_true rfl, Or.inl q1577, Or.inl rfl, rfl, rfl, fun _ => rfl⟩
theorem fX4_184 : xFld RX4 184 3 33 .int false := ⟨RX4, TX4, 64, tyX4, "MouldVotesModel", clX4, Nat.le_of_ble_eq_true rfl, Or.inl q1596, Or.inl rfl, rfl, rfl, fun _ => rfl⟩
theorem fX4_187 : xFld RX4 187 3 34 .int false := ⟨RX4, TX4, 64, tyX4, "MouldVotesModel", clX4, Nat.le_of_ble_eq_true rfl, Or.inl q1597, Or.inl rfl, rfl, rfl, fun _ => rfl⟩
theorem fX4_203 : xFld RX4 203 3 36 .int false := ⟨RX4, TX4, 64, tyX4, "MouldVotesModel", clX4, Nat.le_of_ble_eq_true rfl, Or.inl q1599, Or.inl rfl, rfl, rfl, fun _ => rfl⟩
theorem fX4_206 : xFld RX4 206 3 35 .int false := ⟨RX4, TX4, 64, tyX4, "MouldVotesModel", clX4, Nat.le_of_ble_eq_true rfl, Or.inl q1598, Or.inl rfl, rfl, rfl, fun _ => rfl⟩
theorem fX4_234 : xFld RX4 234 3 25 .int false := ⟨RX4, TX4, 64, tyX4, "MouldVotesModel", clX4, Nat.le_of_ble_eq_true rfl, Or.inl q1588, Or.inl rfl, rfl, rfl, fun _ => rfl⟩
theorem fX4_237 : xFld RX4 237 3 26 .int false := ⟨RX4, TX4, 64, tyX4, "MouldVotesModel", clX4, Nat.le_of_ble_eq_true rfl, Or.inl q1589, Or.inl rfl, rfl, rfl, fun _ => rfl⟩
theorem fX4_250 : xFld RX4 250 3 27 .int false := ⟨RX4, TX4, 64, tyX4, "MouldVotesModel", clX4, Nat.le_of_ble_eq_true rfl, Or.inl q1590, Or.inl rfl, rfl, rfl, fun _ => rfl⟩
theorem fX4_253 : xFld RX4 253 3 28 .int false := ⟨RX4, TX4, 64, tyX4, "MouldVotesModel", clX4, Nat.le_of_ble_eq_true rfl, Or.inl q1591, Or.inl rfl, rfl, rfl, fun _ => rfl⟩
theorem fX4_272 : xFld RX4 272 3 29 .int false := ⟨RX4, TX4, 64, tyX4, "MouldVotesModel", clX4, Nat.le_of_ble_eq_true rfl, Or.inl q1592, Or.inl rfl, rfl, rfl, fun _ => rfl⟩
theorem fX4_275 : xFld RX4 275 3 30 .int false := ⟨RX4, TX4, 64, tyX4, "MouldVotesModel", clX4, Nat.le_of_ble_eq_true rfl, Or.inl q1593, Or.inl rfl, rfl, rfl, fun _ => rfl⟩
theorem fX4_278 : xFld RX4 278 3 31 .int false := ⟨RX4, TX4, 64, tyX4, "MouldVotesModel", clX4, Nat.le_of_ble_eq_true rfl, Or.inl q1594, Or.inl rfl, rfl, rfl, fun _ => rfl⟩
theorem fX4_284 : xFld RX4 284 3 32 .int false := ⟨RX4, TX4, 64, tyX4, "MouldVotesModel", clX4, Nat.le_of_ble_eq_true rfl, Or.inl q1595, Or.inl rfl, rfl, rfl, fun _ => rfl⟩
theorem fX4_297 : xFld RX4 297 3 3 .int false := ⟨RX4, TX4, 64, tyX4, "MouldVotesModel", clX4, Nat.le_of_ble_eq_true rfl, Or.inl q1566, Or.inl rfl, rfl, rfl, fun _ => rfl⟩
theorem fX4_300 : xFld RX4 300 3 4 .int false := ⟨RX4, TX4, 64, tyX4, "MouldVotesModel", clX4, Nat.le_of_ble_eq_true rfl, Or.inl q1567, Or.inl rfl, rfl, rfl, fun _ => rfl⟩
theorem fX4_307 : xFld RX4 307 3 46 .int false := ⟨RX4, TX4, 64, tyX4, "MouldVotesModel", clX4, Nat.le_of_ble_eq_true rfl, Or.inl q1609, Or.inl rfl, rfl, rfl, fun _ => rfl⟩
theorem fX4_310 : xFld RX4 310 3 53 .int false := ⟨RX4, TX4, 64, tyX4, "MouldVotesModel", clX4, Nat.le_of_ble_eq_true rfl, Or.inl q1616, Or.inl rfl, rfl, rfl, fun _ => rfl⟩
theorem fX4_313 : xFld RX4 313 3 58 .boolean false := ⟨RX4, TX4, 64, tyX4, "MouldVotesModel", clX4, Nat.le_of_ble_eq_true rfl, Or.inl q1621, Or.inl rfl, rfl, rfl, fun _ => rfl⟩
theorem fX4_447 : xFld RX4 447 3 57 .int false := ⟨RX4, TX4, 64, tyX4, "MouldVotesModel", clX4, Nat.le_of_ble_eq_true rfl, Or.inl q1620, Or.inl rfl, rfl, rfl, fun _ => rfl⟩
theorem fX4_460 : xFld RX4 460 3 59 .int false := ⟨RX4, TX4, 64, tyX4, "MouldVotesModel", clX4, Nat.le_of_ble_eq_true rfl, Or.inl q1622, Or.inl rfl, rfl, rfl, fun _ => rfl⟩
theorem fX4_463 : xFld RX4 463 3 60 .int false := ⟨RX4, TX4, 64, tyX4, "MouldVotesModel", clX4, Nat.le_of_ble_eq_true rfl, Or.inl q1623, Or.inl rfl, rfl, rfl, fun _ => rfl⟩
