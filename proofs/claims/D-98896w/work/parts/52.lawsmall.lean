/-! the small methods of the law -/
set_option maxRecDepth 100000
theorem q120 : (Jvm.Cond.initialized "MouldVotesLaw") ∈ lw_all := lw_g (lw_at lw_m1 0 rfl) rfl
theorem q154 : (Jvm.Cond.classLink "MouldVotesLaw" (8 : Nat) "MouldVotes") ∈ lw_all := lw_g (lw_at lw_m1 34 rfl) rfl
theorem q156 : (Jvm.Cond.methodLink "MouldVotesLaw" (110 : Nat) ({ cls := "MouldVotes", name := "<init>", desc := "()V" } : Jvm.MethodName)) ∈ lw_all := lw_g (lw_at lw_m1 36 rfl) rfl
theorem q322 : (Jvm.Cond.methodLink "MouldVotesLaw" (114 : Nat) ({ cls := "MouldVotes", name := "feed", desc := "(IIIII)I" } : Jvm.MethodName)) ∈ lw_all := lw_g (lw_at lw_m1 202 rfl) rfl
theorem q326 : (Jvm.Cond.methodLink "MouldVotesLaw" (129 : Nat) ({ cls := "MouldVotes", name := "fault", desc := "()I" } : Jvm.MethodName)) ∈ lw_all := lw_g (lw_at lw_m1 206 rfl) rfl
theorem q330 : (Jvm.Cond.methodLink "MouldVotesLaw" (146 : Nat) ({ cls := "MouldVotes", name := "days", desc := "(I)I" } : Jvm.MethodName)) ∈ lw_all := lw_g (lw_at lw_m1 210 rfl) rfl
theorem q606 : (Jvm.Cond.methodLink "MouldVotesLaw" (162 : Nat) ({ cls := "MouldVotes", name := "undo", desc := "()I" } : Jvm.MethodName)) ∈ lw_all := lw_g (lw_at lw_m3 6 rfl) rfl
theorem q612 : (Jvm.Cond.methodLink "MouldVotesLaw" (179 : Nat) ({ cls := "MouldVotes", name := "rest", desc := "()I" } : Jvm.MethodName)) ∈ lw_all := lw_g (lw_at lw_m3 12 rfl) rfl
theorem q619 : (Jvm.Cond.methodLink "MouldVotesLaw" (192 : Nat) ({ cls := "MouldVotes", name := "counting", desc := "()I" } : Jvm.MethodName)) ∈ lw_all := lw_g (lw_at lw_m3 19 rfl) rfl
theorem q663 : (Jvm.Cond.methodLink "MouldVotesLaw" (196 : Nat) ({ cls := "MouldVotes", name := "carry", desc := "()I" } : Jvm.MethodName)) ∈ lw_all := lw_g (lw_at lw_m3 63 rfl) rfl
theorem q694 : (Jvm.Cond.methodLink "MouldVotesLaw" (206 : Nat) ({ cls := "MouldVotes", name := "forget", desc := "()V" } : Jvm.MethodName)) ∈ lw_all := lw_g (lw_at lw_m3 94 rfl) rfl
theorem q698 : (Jvm.Cond.methodLink "MouldVotesLaw" (249 : Nat) ({ cls := "MouldVotes", name := "image", desc := "()V" } : Jvm.MethodName)) ∈ lw_all := lw_g (lw_at lw_m3 98 rfl) rfl
theorem q726 : (Jvm.Cond.methodLink "MouldVotesLaw" (253 : Nat) ({ cls := "MouldVotes", name := "restore", desc := "()Z" } : Jvm.MethodName)) ∈ lw_all := lw_g (lw_at lw_m3 126 rfl) rfl
theorem q730 : (Jvm.Cond.methodLink "MouldVotesLaw" (119 : Nat) ({ cls := "MouldVotesLaw", name := "roll", desc := "(LMouldVotes;I[J)I" } : Jvm.MethodName)) ∈ lw_all := lw_g (lw_at lw_m3 130 rfl) rfl
theorem q731 : (Jvm.Cond.static ({ cls := "MouldVotesLaw", name := "roll", desc := "(LMouldVotes;I[J)I" } : Jvm.MethodName)) ∈ lw_all := lw_g (lw_at lw_m3 131 rfl) rfl
theorem q732 : (Jvm.Cond.codeWith ({ cls := "MouldVotesLaw", name := "roll", desc := "(LMouldVotes;I[J)I" } : Jvm.MethodName) method_3_code (4 : Nat) (Option.some Jvm.ClassFile.FieldType.int) [((0 : Nat), (9 : Nat), (12 : Nat), (13 : Nat))]) ∈ lw_all := lw_g (lw_at lw_m3 132 rfl) rfl
theorem q733 : (Jvm.Cond.classLink "MouldVotesLaw" (13 : Nat) "java/lang/IllegalArgumentException") ∈ lw_all := lw_g (lw_at lw_m3 133 rfl) rfl
theorem q734 : (Jvm.Cond.methodLink "MouldVotesLaw" (7 : Nat) ({ cls := "MouldVotes", name := "roll", desc := "(I)I" } : Jvm.MethodName)) ∈ lw_all := lw_g (lw_at lw_m3 134 rfl) rfl
theorem q1251 : (Jvm.Cond.methodLink "MouldVotesLaw" (133 : Nat) ({ cls := "MouldVotesLaw", name := "count", desc := "(LMouldVotes;I[J)I" } : Jvm.MethodName)) ∈ lw_all := lw_g (lw_at lw_m5 171 rfl) rfl
theorem q1252 : (Jvm.Cond.static ({ cls := "MouldVotesLaw", name := "count", desc := "(LMouldVotes;I[J)I" } : Jvm.MethodName)) ∈ lw_all := lw_g (lw_at lw_m5 172 rfl) rfl
theorem q1253 : (Jvm.Cond.codeWith ({ cls := "MouldVotesLaw", name := "count", desc := "(LMouldVotes;I[J)I" } : Jvm.MethodName) method_4_code (4 : Nat) (Option.some Jvm.ClassFile.FieldType.int) [((0 : Nat), (9 : Nat), (12 : Nat), (18 : Nat))]) ∈ lw_all := lw_g (lw_at lw_m5 173 rfl) rfl
theorem q1254 : (Jvm.Cond.classLink "MouldVotesLaw" (18 : Nat) "java/util/NoSuchElementException") ∈ lw_all := lw_g (lw_at lw_m5 174 rfl) rfl
theorem q1255 : (Jvm.Cond.methodLink "MouldVotesLaw" (15 : Nat) ({ cls := "MouldVotes", name := "count", desc := "(I)I" } : Jvm.MethodName)) ∈ lw_all := lw_g (lw_at lw_m5 175 rfl) rfl
theorem q1286 : (Jvm.Cond.methodLink "MouldVotesLaw" (136 : Nat) ({ cls := "MouldVotesLaw", name := "cell", desc := "(LMouldVotes;II[J)I" } : Jvm.MethodName)) ∈ lw_all := lw_g (lw_at lw_m5 206 rfl) rfl
theorem q1287 : (Jvm.Cond.static ({ cls := "MouldVotesLaw", name := "cell", desc := "(LMouldVotes;II[J)I" } : Jvm.MethodName)) ∈ lw_all := lw_g (lw_at lw_m5 207 rfl) rfl
theorem q1288 : (Jvm.Cond.codeWith ({ cls := "MouldVotesLaw", name := "cell", desc := "(LMouldVotes;II[J)I" } : Jvm.MethodName) method_5_code (5 : Nat) (Option.some Jvm.ClassFile.FieldType.int) [((0 : Nat), (10 : Nat), (13 : Nat), (18 : Nat))]) ∈ lw_all := lw_g (lw_at lw_m5 208 rfl) rfl
theorem q1289 : (Jvm.Cond.methodLink "MouldVotesLaw" (20 : Nat) ({ cls := "MouldVotes", name := "cell", desc := "(II)I" } : Jvm.MethodName)) ∈ lw_all := lw_g (lw_at lw_m5 209 rfl) rfl
theorem q1302 : (Jvm.Cond.methodLink "MouldVotesLaw" (140 : Nat) ({ cls := "MouldVotesLaw", name := "party", desc := "(LMouldVotes;I[J)I" } : Jvm.MethodName)) ∈ lw_all := lw_g (lw_at lw_m5 222 rfl) rfl
theorem q1303 : (Jvm.Cond.static ({ cls := "MouldVotesLaw", name := "party", desc := "(LMouldVotes;I[J)I" } : Jvm.MethodName)) ∈ lw_all := lw_g (lw_at lw_m5 223 rfl) rfl
theorem q1304 : (Jvm.Cond.codeWith ({ cls := "MouldVotesLaw", name := "party", desc := "(LMouldVotes;I[J)I" } : Jvm.MethodName) method_6_code (4 : Nat) (Option.some Jvm.ClassFile.FieldType.int) [((0 : Nat), (9 : Nat), (12 : Nat), (18 : Nat))]) ∈ lw_all := lw_g (lw_at lw_m5 224 rfl) rfl
theorem q1305 : (Jvm.Cond.methodLink "MouldVotesLaw" (24 : Nat) ({ cls := "MouldVotes", name := "party", desc := "(I)I" } : Jvm.MethodName)) ∈ lw_all := lw_g (lw_at lw_m5 225 rfl) rfl
theorem q1312 : (Jvm.Cond.methodLink "MouldVotesLaw" (143 : Nat) ({ cls := "MouldVotesLaw", name := "votes", desc := "(LMouldVotes;I[J)I" } : Jvm.MethodName)) ∈ lw_all := lw_g (lw_at lw_m5 232 rfl) rfl
theorem q1313 : (Jvm.Cond.static ({ cls := "MouldVotesLaw", name := "votes", desc := "(LMouldVotes;I[J)I" } : Jvm.MethodName)) ∈ lw_all := lw_g (lw_at lw_m5 233 rfl) rfl
theorem q1314 : (Jvm.Cond.codeWith ({ cls := "MouldVotesLaw", name := "votes", desc := "(LMouldVotes;I[J)I" } : Jvm.MethodName) method_7_code (4 : Nat) (Option.some Jvm.ClassFile.FieldType.int) [((0 : Nat), (9 : Nat), (12 : Nat), (18 : Nat))]) ∈ lw_all := lw_g (lw_at lw_m5 234 rfl) rfl
theorem q1315 : (Jvm.Cond.methodLink "MouldVotesLaw" (27 : Nat) ({ cls := "MouldVotes", name := "votes", desc := "(I)I" } : Jvm.MethodName)) ∈ lw_all := lw_g (lw_at lw_m5 235 rfl) rfl
theorem q1323 : (Jvm.Cond.methodLink "MouldVotesLaw" (150 : Nat) ({ cls := "MouldVotesLaw", name := "bread", desc := "(LMouldVotes;II[J)I" } : Jvm.MethodName)) ∈ lw_all := lw_g (lw_at lw_m6 3 rfl) rfl
theorem q1324 : (Jvm.Cond.static ({ cls := "MouldVotesLaw", name := "bread", desc := "(LMouldVotes;II[J)I" } : Jvm.MethodName)) ∈ lw_all := lw_g (lw_at lw_m6 4 rfl) rfl
theorem q1325 : (Jvm.Cond.codeWith ({ cls := "MouldVotesLaw", name := "bread", desc := "(LMouldVotes;II[J)I" } : Jvm.MethodName) method_8_code (5 : Nat) (Option.some Jvm.ClassFile.FieldType.int) [((0 : Nat), (10 : Nat), (13 : Nat), (18 : Nat))]) ∈ lw_all := lw_g (lw_at lw_m6 5 rfl) rfl
theorem q1326 : (Jvm.Cond.methodLink "MouldVotesLaw" (30 : Nat) ({ cls := "MouldVotes", name := "bread", desc := "(II)I" } : Jvm.MethodName)) ∈ lw_all := lw_g (lw_at lw_m6 6 rfl) rfl
theorem q1334 : (Jvm.Cond.methodLink "MouldVotesLaw" (153 : Nat) ({ cls := "MouldVotesLaw", name := "damp", desc := "(LMouldVotes;II[J)I" } : Jvm.MethodName)) ∈ lw_all := lw_g (lw_at lw_m6 14 rfl) rfl
theorem q1335 : (Jvm.Cond.static ({ cls := "MouldVotesLaw", name := "damp", desc := "(LMouldVotes;II[J)I" } : Jvm.MethodName)) ∈ lw_all := lw_g (lw_at lw_m6 15 rfl) rfl
theorem q1336 : (Jvm.Cond.codeWith ({ cls := "MouldVotesLaw", name := "damp", desc := "(LMouldVotes;II[J)I" } : Jvm.MethodName) method_9_code (5 : Nat) (Option.some Jvm.ClassFile.FieldType.int) [((0 : Nat), (10 : Nat), (13 : Nat), (18 : Nat))]) ∈ lw_all := lw_g (lw_at lw_m6 16 rfl) rfl
theorem q1337 : (Jvm.Cond.methodLink "MouldVotesLaw" (33 : Nat) ({ cls := "MouldVotes", name := "damp", desc := "(II)I" } : Jvm.MethodName)) ∈ lw_all := lw_g (lw_at lw_m6 17 rfl) rfl
theorem q1341 : (Jvm.Cond.methodLink "MouldVotesLaw" (156 : Nat) ({ cls := "MouldVotesLaw", name := "sow", desc := "(LMouldVotes;II[J)I" } : Jvm.MethodName)) ∈ lw_all := lw_g (lw_at lw_m6 21 rfl) rfl
theorem q1342 : (Jvm.Cond.static ({ cls := "MouldVotesLaw", name := "sow", desc := "(LMouldVotes;II[J)I" } : Jvm.MethodName)) ∈ lw_all := lw_g (lw_at lw_m6 22 rfl) rfl
theorem q1343 : (Jvm.Cond.codeWith ({ cls := "MouldVotesLaw", name := "sow", desc := "(LMouldVotes;II[J)I" } : Jvm.MethodName) method_10_code (5 : Nat) (Option.some Jvm.ClassFile.FieldType.int) [((0 : Nat), (17 : Nat), (20 : Nat), (18 : Nat))]) ∈ lw_all := lw_g (lw_at lw_m6 23 rfl) rfl
theorem q1344 : (Jvm.Cond.methodLink "MouldVotesLaw" (36 : Nat) ({ cls := "MouldVotes", name := "sow", desc := "(II)Z" } : Jvm.MethodName)) ∈ lw_all := lw_g (lw_at lw_m6 24 rfl) rfl
theorem q1348 : (Jvm.Cond.methodLink "MouldVotesLaw" (159 : Nat) ({ cls := "MouldVotesLaw", name := "scrape", desc := "(LMouldVotes;I[J)I" } : Jvm.MethodName)) ∈ lw_all := lw_g (lw_at lw_m6 28 rfl) rfl
theorem q1349 : (Jvm.Cond.static ({ cls := "MouldVotesLaw", name := "scrape", desc := "(LMouldVotes;I[J)I" } : Jvm.MethodName)) ∈ lw_all := lw_g (lw_at lw_m6 29 rfl) rfl
theorem q1350 : (Jvm.Cond.codeWith ({ cls := "MouldVotesLaw", name := "scrape", desc := "(LMouldVotes;I[J)I" } : Jvm.MethodName) method_11_code (4 : Nat) (Option.some Jvm.ClassFile.FieldType.int) [((0 : Nat), (9 : Nat), (12 : Nat), (18 : Nat))]) ∈ lw_all := lw_g (lw_at lw_m6 30 rfl) rfl
theorem q1351 : (Jvm.Cond.methodLink "MouldVotesLaw" (40 : Nat) ({ cls := "MouldVotes", name := "scrape", desc := "(I)I" } : Jvm.MethodName)) ∈ lw_all := lw_g (lw_at lw_m6 31 rfl) rfl
theorem q1356 : (Jvm.Cond.methodLink "MouldVotesLaw" (166 : Nat) ({ cls := "MouldVotesLaw", name := "then", desc := "(LMouldVotes;III[J)I" } : Jvm.MethodName)) ∈ lw_all := lw_g (lw_at lw_m6 36 rfl) rfl
theorem q1357 : (Jvm.Cond.static ({ cls := "MouldVotesLaw", name := "then", desc := "(LMouldVotes;III[J)I" } : Jvm.MethodName)) ∈ lw_all := lw_g (lw_at lw_m6 37 rfl) rfl
theorem q1358 : (Jvm.Cond.codeWith ({ cls := "MouldVotesLaw", name := "then", desc := "(LMouldVotes;III[J)I" } : Jvm.MethodName) method_12_code (6 : Nat) (Option.some Jvm.ClassFile.FieldType.int) [((0 : Nat), (12 : Nat), (15 : Nat), (18 : Nat)), ((0 : Nat), (12 : Nat), (19 : Nat), (13 : Nat))]) ∈ lw_all := lw_g (lw_at lw_m6 38 rfl) rfl
theorem q1359 : (Jvm.Cond.methodLink "MouldVotesLaw" (43 : Nat) ({ cls := "MouldVotes", name := "then", desc := "(III)I" } : Jvm.MethodName)) ∈ lw_all := lw_g (lw_at lw_m6 39 rfl) rfl
theorem q1367 : (Jvm.Cond.methodLink "MouldVotesLaw" (170 : Nat) ({ cls := "MouldVotesLaw", name := "voting", desc := "(LMouldVotes;II[J)I" } : Jvm.MethodName)) ∈ lw_all := lw_g (lw_at lw_m6 47 rfl) rfl
theorem q1368 : (Jvm.Cond.static ({ cls := "MouldVotesLaw", name := "voting", desc := "(LMouldVotes;II[J)I" } : Jvm.MethodName)) ∈ lw_all := lw_g (lw_at lw_m6 48 rfl) rfl
theorem q1369 : (Jvm.Cond.codeWith ({ cls := "MouldVotesLaw", name := "voting", desc := "(LMouldVotes;II[J)I" } : Jvm.MethodName) method_13_code (5 : Nat) (Option.some Jvm.ClassFile.FieldType.int) [((0 : Nat), (10 : Nat), (13 : Nat), (18 : Nat)), ((0 : Nat), (10 : Nat), (17 : Nat), (13 : Nat))]) ∈ lw_all := lw_g (lw_at lw_m6 49 rfl) rfl
theorem q1370 : (Jvm.Cond.methodLink "MouldVotesLaw" (47 : Nat) ({ cls := "MouldVotes", name := "voting", desc := "(II)I" } : Jvm.MethodName)) ∈ lw_all := lw_g (lw_at lw_m6 50 rfl) rfl
theorem q1374 : (Jvm.Cond.methodLink "MouldVotesLaw" (173 : Nat) ({ cls := "MouldVotesLaw", name := "winner", desc := "(LMouldVotes;I[J)I" } : Jvm.MethodName)) ∈ lw_all := lw_g (lw_at lw_m6 54 rfl) rfl
theorem q1375 : (Jvm.Cond.static ({ cls := "MouldVotesLaw", name := "winner", desc := "(LMouldVotes;I[J)I" } : Jvm.MethodName)) ∈ lw_all := lw_g (lw_at lw_m6 55 rfl) rfl
theorem q1376 : (Jvm.Cond.codeWith ({ cls := "MouldVotesLaw", name := "winner", desc := "(LMouldVotes;I[J)I" } : Jvm.MethodName) method_14_code (4 : Nat) (Option.some Jvm.ClassFile.FieldType.int) [((0 : Nat), (9 : Nat), (12 : Nat), (13 : Nat))]) ∈ lw_all := lw_g (lw_at lw_m6 56 rfl) rfl
theorem q1377 : (Jvm.Cond.methodLink "MouldVotesLaw" (50 : Nat) ({ cls := "MouldVotes", name := "winner", desc := "(I)I" } : Jvm.MethodName)) ∈ lw_all := lw_g (lw_at lw_m6 57 rfl) rfl
theorem q1381 : (Jvm.Cond.methodLink "MouldVotesLaw" (176 : Nat) ({ cls := "MouldVotesLaw", name := "first", desc := "(LMouldVotes;I[J)I" } : Jvm.MethodName)) ∈ lw_all := lw_g (lw_at lw_m6 61 rfl) rfl
theorem q1382 : (Jvm.Cond.static ({ cls := "MouldVotesLaw", name := "first", desc := "(LMouldVotes;I[J)I" } : Jvm.MethodName)) ∈ lw_all := lw_g (lw_at lw_m6 62 rfl) rfl
theorem q1383 : (Jvm.Cond.codeWith ({ cls := "MouldVotesLaw", name := "first", desc := "(LMouldVotes;I[J)I" } : Jvm.MethodName) method_15_code (4 : Nat) (Option.some Jvm.ClassFile.FieldType.int) [((0 : Nat), (9 : Nat), (12 : Nat), (18 : Nat))]) ∈ lw_all := lw_g (lw_at lw_m6 63 rfl) rfl
theorem q1384 : (Jvm.Cond.methodLink "MouldVotesLaw" (53 : Nat) ({ cls := "MouldVotes", name := "first", desc := "(I)I" } : Jvm.MethodName)) ∈ lw_all := lw_g (lw_at lw_m6 64 rfl) rfl
theorem q1388 : (Jvm.Cond.methodLink "MouldVotesLaw" (183 : Nat) ({ cls := "MouldVotesLaw", name := "least", desc := "(LMouldVotes;III[J)I" } : Jvm.MethodName)) ∈ lw_all := lw_g (lw_at lw_m6 68 rfl) rfl
theorem q1389 : (Jvm.Cond.static ({ cls := "MouldVotesLaw", name := "least", desc := "(LMouldVotes;III[J)I" } : Jvm.MethodName)) ∈ lw_all := lw_g (lw_at lw_m6 69 rfl) rfl
theorem q1390 : (Jvm.Cond.codeWith ({ cls := "MouldVotesLaw", name := "least", desc := "(LMouldVotes;III[J)I" } : Jvm.MethodName) method_16_code (6 : Nat) (Option.some Jvm.ClassFile.FieldType.int) [((0 : Nat), (12 : Nat), (15 : Nat), (18 : Nat)), ((0 : Nat), (12 : Nat), (19 : Nat), (13 : Nat))]) ∈ lw_all := lw_g (lw_at lw_m6 70 rfl) rfl
theorem q1391 : (Jvm.Cond.methodLink "MouldVotesLaw" (56 : Nat) ({ cls := "MouldVotes", name := "least", desc := "(III)I" } : Jvm.MethodName)) ∈ lw_all := lw_g (lw_at lw_m6 71 rfl) rfl
theorem q1395 : (Jvm.Cond.methodLink "MouldVotesLaw" (186 : Nat) ({ cls := "MouldVotesLaw", name := "best", desc := "(LMouldVotes;II[J)I" } : Jvm.MethodName)) ∈ lw_all := lw_g (lw_at lw_m6 75 rfl) rfl
theorem q1396 : (Jvm.Cond.static ({ cls := "MouldVotesLaw", name := "best", desc := "(LMouldVotes;II[J)I" } : Jvm.MethodName)) ∈ lw_all := lw_g (lw_at lw_m6 76 rfl) rfl
theorem q1397 : (Jvm.Cond.codeWith ({ cls := "MouldVotesLaw", name := "best", desc := "(LMouldVotes;II[J)I" } : Jvm.MethodName) method_17_code (5 : Nat) (Option.some Jvm.ClassFile.FieldType.int) [((0 : Nat), (10 : Nat), (13 : Nat), (18 : Nat)), ((0 : Nat), (10 : Nat), (17 : Nat), (13 : Nat))]) ∈ lw_all := lw_g (lw_at lw_m6 77 rfl) rfl
theorem q1398 : (Jvm.Cond.methodLink "MouldVotesLaw" (59 : Nat) ({ cls := "MouldVotes", name := "best", desc := "(II)I" } : Jvm.MethodName)) ∈ lw_all := lw_g (lw_at lw_m6 78 rfl) rfl
theorem q1402 : (Jvm.Cond.methodLink "MouldVotesLaw" (189 : Nat) ({ cls := "MouldVotesLaw", name := "frost", desc := "(LMouldVotes;II[J)I" } : Jvm.MethodName)) ∈ lw_all := lw_g (lw_at lw_m6 82 rfl) rfl
theorem q1403 : (Jvm.Cond.static ({ cls := "MouldVotesLaw", name := "frost", desc := "(LMouldVotes;II[J)I" } : Jvm.MethodName)) ∈ lw_all := lw_g (lw_at lw_m6 83 rfl) rfl
theorem q1404 : (Jvm.Cond.codeWith ({ cls := "MouldVotesLaw", name := "frost", desc := "(LMouldVotes;II[J)I" } : Jvm.MethodName) method_18_code (5 : Nat) (Option.some Jvm.ClassFile.FieldType.int) [((0 : Nat), (10 : Nat), (13 : Nat), (18 : Nat)), ((0 : Nat), (10 : Nat), (17 : Nat), (13 : Nat))]) ∈ lw_all := lw_g (lw_at lw_m6 84 rfl) rfl
theorem q1405 : (Jvm.Cond.methodLink "MouldVotesLaw" (62 : Nat) ({ cls := "MouldVotes", name := "frost", desc := "(II)I" } : Jvm.MethodName)) ∈ lw_all := lw_g (lw_at lw_m6 85 rfl) rfl
theorem q1413 : (Jvm.Cond.methodLink "MouldVotesLaw" (200 : Nat) ({ cls := "MouldVotesLaw", name := "decisive", desc := "(LMouldVotes;I[J)I" } : Jvm.MethodName)) ∈ lw_all := lw_g (lw_at lw_m6 93 rfl) rfl
theorem q1414 : (Jvm.Cond.static ({ cls := "MouldVotesLaw", name := "decisive", desc := "(LMouldVotes;I[J)I" } : Jvm.MethodName)) ∈ lw_all := lw_g (lw_at lw_m6 94 rfl) rfl
theorem q1415 : (Jvm.Cond.codeWith ({ cls := "MouldVotesLaw", name := "decisive", desc := "(LMouldVotes;I[J)I" } : Jvm.MethodName) method_19_code (4 : Nat) (Option.some Jvm.ClassFile.FieldType.int) [((0 : Nat), (9 : Nat), (12 : Nat), (18 : Nat))]) ∈ lw_all := lw_g (lw_at lw_m6 95 rfl) rfl
theorem q1416 : (Jvm.Cond.methodLink "MouldVotesLaw" (65 : Nat) ({ cls := "MouldVotes", name := "decisive", desc := "(I)I" } : Jvm.MethodName)) ∈ lw_all := lw_g (lw_at lw_m6 96 rfl) rfl
theorem q1420 : (Jvm.Cond.methodLink "MouldVotesLaw" (203 : Nat) ({ cls := "MouldVotesLaw", name := "see", desc := "(LMouldVotes;III[J)I" } : Jvm.MethodName)) ∈ lw_all := lw_g (lw_at lw_m6 100 rfl) rfl
theorem q1421 : (Jvm.Cond.static ({ cls := "MouldVotesLaw", name := "see", desc := "(LMouldVotes;III[J)I" } : Jvm.MethodName)) ∈ lw_all := lw_g (lw_at lw_m6 101 rfl) rfl
theorem q1422 : (Jvm.Cond.codeWith ({ cls := "MouldVotesLaw", name := "see", desc := "(LMouldVotes;III[J)I" } : Jvm.MethodName) method_20_code (6 : Nat) (Option.some Jvm.ClassFile.FieldType.int) [((0 : Nat), (12 : Nat), (15 : Nat), (18 : Nat))]) ∈ lw_all := lw_g (lw_at lw_m6 102 rfl) rfl
theorem q1423 : (Jvm.Cond.methodLink "MouldVotesLaw" (68 : Nat) ({ cls := "MouldVotes", name := "see", desc := "(III)I" } : Jvm.MethodName)) ∈ lw_all := lw_g (lw_at lw_m6 103 rfl) rfl
theorem q1427 : (Jvm.Cond.methodLink "MouldVotesLaw" (210 : Nat) ({ cls := "MouldVotesLaw", name := "sown", desc := "(LMouldVotes;I[J)I" } : Jvm.MethodName)) ∈ lw_all := lw_g (lw_at lw_m6 107 rfl) rfl
theorem q1428 : (Jvm.Cond.static ({ cls := "MouldVotesLaw", name := "sown", desc := "(LMouldVotes;I[J)I" } : Jvm.MethodName)) ∈ lw_all := lw_g (lw_at lw_m6 108 rfl) rfl
theorem q1429 : (Jvm.Cond.codeWith ({ cls := "MouldVotesLaw", name := "sown", desc := "(LMouldVotes;I[J)I" } : Jvm.MethodName) method_21_code (4 : Nat) (Option.some Jvm.ClassFile.FieldType.int) [((0 : Nat), (9 : Nat), (12 : Nat), (18 : Nat))]) ∈ lw_all := lw_g (lw_at lw_m6 109 rfl) rfl
theorem q1430 : (Jvm.Cond.methodLink "MouldVotesLaw" (71 : Nat) ({ cls := "MouldVotes", name := "sown", desc := "(I)I" } : Jvm.MethodName)) ∈ lw_all := lw_g (lw_at lw_m6 110 rfl) rfl
theorem q1448 : (Jvm.Cond.methodLink "MouldVotesLaw" (213 : Nat) ({ cls := "MouldVotesLaw", name := "next", desc := "(LMouldVotes;I[J)I" } : Jvm.MethodName)) ∈ lw_all := lw_g (lw_at lw_m6 128 rfl) rfl
theorem q1449 : (Jvm.Cond.static ({ cls := "MouldVotesLaw", name := "next", desc := "(LMouldVotes;I[J)I" } : Jvm.MethodName)) ∈ lw_all := lw_g (lw_at lw_m6 129 rfl) rfl
theorem q1450 : (Jvm.Cond.codeWith ({ cls := "MouldVotesLaw", name := "next", desc := "(LMouldVotes;I[J)I" } : Jvm.MethodName) method_22_code (4 : Nat) (Option.some Jvm.ClassFile.FieldType.int) [((0 : Nat), (9 : Nat), (12 : Nat), (18 : Nat))]) ∈ lw_all := lw_g (lw_at lw_m6 130 rfl) rfl
theorem q1451 : (Jvm.Cond.methodLink "MouldVotesLaw" (74 : Nat) ({ cls := "MouldVotes", name := "next", desc := "(I)I" } : Jvm.MethodName)) ∈ lw_all := lw_g (lw_at lw_m6 131 rfl) rfl
theorem q1455 : (Jvm.Cond.methodLink "MouldVotesLaw" (216 : Nat) ({ cls := "MouldVotesLaw", name := "frosts", desc := "(LMouldVotes;III[J)I" } : Jvm.MethodName)) ∈ lw_all := lw_g (lw_at lw_m6 135 rfl) rfl
theorem q1456 : (Jvm.Cond.static ({ cls := "MouldVotesLaw", name := "frosts", desc := "(LMouldVotes;III[J)I" } : Jvm.MethodName)) ∈ lw_all := lw_g (lw_at lw_m6 136 rfl) rfl
theorem q1457 : (Jvm.Cond.codeWith ({ cls := "MouldVotesLaw", name := "frosts", desc := "(LMouldVotes;III[J)I" } : Jvm.MethodName) method_23_code (6 : Nat) (Option.some Jvm.ClassFile.FieldType.int) [((0 : Nat), (12 : Nat), (15 : Nat), (18 : Nat)), ((0 : Nat), (12 : Nat), (19 : Nat), (13 : Nat))]) ∈ lw_all := lw_g (lw_at lw_m6 137 rfl) rfl
theorem q1458 : (Jvm.Cond.methodLink "MouldVotesLaw" (77 : Nat) ({ cls := "MouldVotes", name := "frosts", desc := "(III)I" } : Jvm.MethodName)) ∈ lw_all := lw_g (lw_at lw_m6 138 rfl) rfl
theorem q1462 : (Jvm.Cond.methodLink "MouldVotesLaw" (219 : Nat) ({ cls := "MouldVotesLaw", name := "game", desc := "(LMouldVotes;III[J)I" } : Jvm.MethodName)) ∈ lw_all := lw_g (lw_at lw_m6 142 rfl) rfl
theorem q1463 : (Jvm.Cond.static ({ cls := "MouldVotesLaw", name := "game", desc := "(LMouldVotes;III[J)I" } : Jvm.MethodName)) ∈ lw_all := lw_g (lw_at lw_m6 143 rfl) rfl
theorem q1464 : (Jvm.Cond.codeWith ({ cls := "MouldVotesLaw", name := "game", desc := "(LMouldVotes;III[J)I" } : Jvm.MethodName) method_24_code (6 : Nat) (Option.some Jvm.ClassFile.FieldType.int) [((0 : Nat), (12 : Nat), (15 : Nat), (18 : Nat)), ((0 : Nat), (12 : Nat), (19 : Nat), (13 : Nat))]) ∈ lw_all := lw_g (lw_at lw_m6 144 rfl) rfl
theorem q1465 : (Jvm.Cond.methodLink "MouldVotesLaw" (80 : Nat) ({ cls := "MouldVotes", name := "game", desc := "(III)I" } : Jvm.MethodName)) ∈ lw_all := lw_g (lw_at lw_m6 145 rfl) rfl
theorem q1477 : (Jvm.Cond.methodLink "MouldVotesLaw" (222 : Nat) ({ cls := "MouldVotesLaw", name := "drawn", desc := "(LMouldVotes;III[J)I" } : Jvm.MethodName)) ∈ lw_all := lw_g (lw_at lw_m6 157 rfl) rfl
theorem q1478 : (Jvm.Cond.static ({ cls := "MouldVotesLaw", name := "drawn", desc := "(LMouldVotes;III[J)I" } : Jvm.MethodName)) ∈ lw_all := lw_g (lw_at lw_m6 158 rfl) rfl
theorem q1479 : (Jvm.Cond.codeWith ({ cls := "MouldVotesLaw", name := "drawn", desc := "(LMouldVotes;III[J)I" } : Jvm.MethodName) method_25_code (6 : Nat) (Option.some Jvm.ClassFile.FieldType.int) [((0 : Nat), (12 : Nat), (15 : Nat), (18 : Nat)), ((0 : Nat), (12 : Nat), (19 : Nat), (13 : Nat))]) ∈ lw_all := lw_g (lw_at lw_m6 159 rfl) rfl
theorem q1480 : (Jvm.Cond.methodLink "MouldVotesLaw" (83 : Nat) ({ cls := "MouldVotes", name := "drawn", desc := "(III)I" } : Jvm.MethodName)) ∈ lw_all := lw_g (lw_at lw_m6 160 rfl) rfl
theorem q1493 : (Jvm.Cond.methodLink "MouldVotesLaw" (225 : Nat) ({ cls := "MouldVotesLaw", name := "fronts", desc := "(LMouldVotes;I[J)I" } : Jvm.MethodName)) ∈ lw_all := lw_g (lw_at lw_m6 173 rfl) rfl
theorem q1494 : (Jvm.Cond.static ({ cls := "MouldVotesLaw", name := "fronts", desc := "(LMouldVotes;I[J)I" } : Jvm.MethodName)) ∈ lw_all := lw_g (lw_at lw_m6 174 rfl) rfl
theorem q1495 : (Jvm.Cond.codeWith ({ cls := "MouldVotesLaw", name := "fronts", desc := "(LMouldVotes;I[J)I" } : Jvm.MethodName) method_26_code (4 : Nat) (Option.some Jvm.ClassFile.FieldType.int) [((0 : Nat), (9 : Nat), (12 : Nat), (13 : Nat))]) ∈ lw_all := lw_g (lw_at lw_m6 175 rfl) rfl
theorem q1496 : (Jvm.Cond.methodLink "MouldVotesLaw" (86 : Nat) ({ cls := "MouldVotes", name := "fronts", desc := "(I)I" } : Jvm.MethodName)) ∈ lw_all := lw_g (lw_at lw_m6 176 rfl) rfl
theorem q1500 : (Jvm.Cond.methodLink "MouldVotesLaw" (228 : Nat) ({ cls := "MouldVotesLaw", name := "lost", desc := "(LMouldVotes;I[J)I" } : Jvm.MethodName)) ∈ lw_all := lw_g (lw_at lw_m6 180 rfl) rfl
theorem q1501 : (Jvm.Cond.static ({ cls := "MouldVotesLaw", name := "lost", desc := "(LMouldVotes;I[J)I" } : Jvm.MethodName)) ∈ lw_all := lw_g (lw_at lw_m6 181 rfl) rfl
theorem q1502 : (Jvm.Cond.codeWith ({ cls := "MouldVotesLaw", name := "lost", desc := "(LMouldVotes;I[J)I" } : Jvm.MethodName) method_27_code (4 : Nat) (Option.some Jvm.ClassFile.FieldType.int) [((0 : Nat), (9 : Nat), (12 : Nat), (13 : Nat))]) ∈ lw_all := lw_g (lw_at lw_m6 182 rfl) rfl
theorem q1503 : (Jvm.Cond.methodLink "MouldVotesLaw" (89 : Nat) ({ cls := "MouldVotes", name := "lost", desc := "(I)I" } : Jvm.MethodName)) ∈ lw_all := lw_g (lw_at lw_m6 183 rfl) rfl
theorem q1507 : (Jvm.Cond.methodLink "MouldVotesLaw" (231 : Nat) ({ cls := "MouldVotesLaw", name := "starved", desc := "(LMouldVotes;I[J)I" } : Jvm.MethodName)) ∈ lw_all := lw_g (lw_at lw_m6 187 rfl) rfl
theorem q1508 : (Jvm.Cond.static ({ cls := "MouldVotesLaw", name := "starved", desc := "(LMouldVotes;I[J)I" } : Jvm.MethodName)) ∈ lw_all := lw_g (lw_at lw_m6 188 rfl) rfl
theorem q1509 : (Jvm.Cond.codeWith ({ cls := "MouldVotesLaw", name := "starved", desc := "(LMouldVotes;I[J)I" } : Jvm.MethodName) method_28_code (4 : Nat) (Option.some Jvm.ClassFile.FieldType.int) [((0 : Nat), (9 : Nat), (12 : Nat), (13 : Nat))]) ∈ lw_all := lw_g (lw_at lw_m6 189 rfl) rfl
theorem q1510 : (Jvm.Cond.methodLink "MouldVotesLaw" (92 : Nat) ({ cls := "MouldVotes", name := "starved", desc := "(I)I" } : Jvm.MethodName)) ∈ lw_all := lw_g (lw_at lw_m6 190 rfl) rfl
theorem q1514 : (Jvm.Cond.methodLink "MouldVotesLaw" (234 : Nat) ({ cls := "MouldVotesLaw", name := "margin", desc := "(LMouldVotes;I[J)I" } : Jvm.MethodName)) ∈ lw_all := lw_g (lw_at lw_m6 194 rfl) rfl
theorem q1515 : (Jvm.Cond.static ({ cls := "MouldVotesLaw", name := "margin", desc := "(LMouldVotes;I[J)I" } : Jvm.MethodName)) ∈ lw_all := lw_g (lw_at lw_m6 195 rfl) rfl
theorem q1516 : (Jvm.Cond.codeWith ({ cls := "MouldVotesLaw", name := "margin", desc := "(LMouldVotes;I[J)I" } : Jvm.MethodName) method_29_code (4 : Nat) (Option.some Jvm.ClassFile.FieldType.int) [((0 : Nat), (9 : Nat), (12 : Nat), (13 : Nat))]) ∈ lw_all := lw_g (lw_at lw_m6 196 rfl) rfl
theorem q1517 : (Jvm.Cond.methodLink "MouldVotesLaw" (95 : Nat) ({ cls := "MouldVotes", name := "margin", desc := "(I)I" } : Jvm.MethodName)) ∈ lw_all := lw_g (lw_at lw_m6 197 rfl) rfl
theorem q1521 : (Jvm.Cond.methodLink "MouldVotesLaw" (237 : Nat) ({ cls := "MouldVotesLaw", name := "patch", desc := "(LMouldVotes;I[J)I" } : Jvm.MethodName)) ∈ lw_all := lw_g (lw_at lw_m6 201 rfl) rfl
theorem q1522 : (Jvm.Cond.static ({ cls := "MouldVotesLaw", name := "patch", desc := "(LMouldVotes;I[J)I" } : Jvm.MethodName)) ∈ lw_all := lw_g (lw_at lw_m6 202 rfl) rfl
theorem q1523 : (Jvm.Cond.codeWith ({ cls := "MouldVotesLaw", name := "patch", desc := "(LMouldVotes;I[J)I" } : Jvm.MethodName) method_30_code (4 : Nat) (Option.some Jvm.ClassFile.FieldType.int) [((0 : Nat), (9 : Nat), (12 : Nat), (18 : Nat))]) ∈ lw_all := lw_g (lw_at lw_m6 203 rfl) rfl
theorem q1524 : (Jvm.Cond.methodLink "MouldVotesLaw" (98 : Nat) ({ cls := "MouldVotes", name := "patch", desc := "(I)I" } : Jvm.MethodName)) ∈ lw_all := lw_g (lw_at lw_m6 204 rfl) rfl
theorem q1532 : (Jvm.Cond.methodLink "MouldVotesLaw" (240 : Nat) ({ cls := "MouldVotesLaw", name := "greatest", desc := "(LMouldVotes;II[J)I" } : Jvm.MethodName)) ∈ lw_all := lw_g (lw_at lw_m6 212 rfl) rfl
theorem q1533 : (Jvm.Cond.static ({ cls := "MouldVotesLaw", name := "greatest", desc := "(LMouldVotes;II[J)I" } : Jvm.MethodName)) ∈ lw_all := lw_g (lw_at lw_m6 213 rfl) rfl
theorem q1534 : (Jvm.Cond.codeWith ({ cls := "MouldVotesLaw", name := "greatest", desc := "(LMouldVotes;II[J)I" } : Jvm.MethodName) method_31_code (5 : Nat) (Option.some Jvm.ClassFile.FieldType.int) [((0 : Nat), (10 : Nat), (13 : Nat), (18 : Nat))]) ∈ lw_all := lw_g (lw_at lw_m6 214 rfl) rfl
theorem q1535 : (Jvm.Cond.methodLink "MouldVotesLaw" (101 : Nat) ({ cls := "MouldVotes", name := "greatest", desc := "(II)I" } : Jvm.MethodName)) ∈ lw_all := lw_g (lw_at lw_m6 215 rfl) rfl
theorem q1539 : (Jvm.Cond.methodLink "MouldVotesLaw" (243 : Nat) ({ cls := "MouldVotesLaw", name := "keep", desc := "(LMouldVotes;I[J)I" } : Jvm.MethodName)) ∈ lw_all := lw_g (lw_at lw_m6 219 rfl) rfl
theorem q1540 : (Jvm.Cond.static ({ cls := "MouldVotesLaw", name := "keep", desc := "(LMouldVotes;I[J)I" } : Jvm.MethodName)) ∈ lw_all := lw_g (lw_at lw_m6 220 rfl) rfl
theorem q1541 : (Jvm.Cond.codeWith ({ cls := "MouldVotesLaw", name := "keep", desc := "(LMouldVotes;I[J)I" } : Jvm.MethodName) method_32_code (4 : Nat) (Option.some Jvm.ClassFile.FieldType.int) [((0 : Nat), (9 : Nat), (12 : Nat), (18 : Nat))]) ∈ lw_all := lw_g (lw_at lw_m6 221 rfl) rfl
theorem q1542 : (Jvm.Cond.methodLink "MouldVotesLaw" (104 : Nat) ({ cls := "MouldVotes", name := "keep", desc := "(I)I" } : Jvm.MethodName)) ∈ lw_all := lw_g (lw_at lw_m6 222 rfl) rfl
theorem q1546 : (Jvm.Cond.methodLink "MouldVotesLaw" (246 : Nat) ({ cls := "MouldVotesLaw", name := "harm", desc := "(LMouldVotes;II[J)I" } : Jvm.MethodName)) ∈ lw_all := lw_g (lw_at lw_m6 226 rfl) rfl
theorem q1547 : (Jvm.Cond.static ({ cls := "MouldVotesLaw", name := "harm", desc := "(LMouldVotes;II[J)I" } : Jvm.MethodName)) ∈ lw_all := lw_g (lw_at lw_m6 227 rfl) rfl
theorem q1548 : (Jvm.Cond.codeWith ({ cls := "MouldVotesLaw", name := "harm", desc := "(LMouldVotes;II[J)I" } : Jvm.MethodName) method_33_code (5 : Nat) (Option.some Jvm.ClassFile.FieldType.int) [((0 : Nat), (10 : Nat), (13 : Nat), (18 : Nat)), ((0 : Nat), (10 : Nat), (17 : Nat), (13 : Nat))]) ∈ lw_all := lw_g (lw_at lw_m6 228 rfl) rfl
theorem q1549 : (Jvm.Cond.methodLink "MouldVotesLaw" (107 : Nat) ({ cls := "MouldVotes", name := "harm", desc := "(II)I" } : Jvm.MethodName)) ∈ lw_all := lw_g (lw_at lw_m6 229 rfl) rfl
theorem q1553 : (Jvm.Cond.classLink "MouldVotesLaw" (111 : Nat) "MouldVotesModel") ∈ lw_all := lw_g (lw_at lw_m6 233 rfl) rfl
theorem q1555 : (Jvm.Cond.methodLink "MouldVotesLaw" (113 : Nat) ({ cls := "MouldVotesModel", name := "<init>", desc := "()V" } : Jvm.MethodName)) ∈ lw_all := lw_g (lw_at lw_m6 235 rfl) rfl
theorem q1757 : (Jvm.Cond.methodLink "MouldVotesLaw" (125 : Nat) ({ cls := "MouldVotesModel", name := "thrown", desc := "()I" } : Jvm.MethodName)) ∈ lw_all := lw_g (lw_at lw_m7 197 rfl) rfl
theorem q1761 : (Jvm.Cond.methodLink "MouldVotesLaw" (118 : Nat) ({ cls := "MouldVotesModel", name := "feed", desc := "(IIIII)I" } : Jvm.MethodName)) ∈ lw_all := lw_g (lw_at lw_m7 201 rfl) rfl
theorem q1769 : (Jvm.Cond.methodLink "MouldVotesLaw" (124 : Nat) ({ cls := "MouldVotesModel", name := "roll", desc := "(I)I" } : Jvm.MethodName)) ∈ lw_all := lw_g (lw_at lw_m7 209 rfl) rfl
theorem q1900 : (Jvm.Cond.methodLink "MouldVotesLaw" (132 : Nat) ({ cls := "MouldVotesModel", name := "fault", desc := "()I" } : Jvm.MethodName)) ∈ lw_all := lw_g (lw_at lw_m8 100 rfl) rfl
theorem q1904 : (Jvm.Cond.methodLink "MouldVotesLaw" (165 : Nat) ({ cls := "MouldVotesModel", name := "undo", desc := "()I" } : Jvm.MethodName)) ∈ lw_all := lw_g (lw_at lw_m8 104 rfl) rfl
theorem q1908 : (Jvm.Cond.methodLink "MouldVotesLaw" (135 : Nat) ({ cls := "MouldVotesModel", name := "count", desc := "(I)I" } : Jvm.MethodName)) ∈ lw_all := lw_g (lw_at lw_m8 108 rfl) rfl
theorem q1943 : (Jvm.Cond.methodLink "MouldVotesLaw" (139 : Nat) ({ cls := "MouldVotesModel", name := "cell", desc := "(II)I" } : Jvm.MethodName)) ∈ lw_all := lw_g (lw_at lw_m8 143 rfl) rfl
theorem q1980 : (Jvm.Cond.methodLink "MouldVotesLaw" (142 : Nat) ({ cls := "MouldVotesModel", name := "party", desc := "(I)I" } : Jvm.MethodName)) ∈ lw_all := lw_g (lw_at lw_m8 180 rfl) rfl
theorem q1988 : (Jvm.Cond.methodLink "MouldVotesLaw" (145 : Nat) ({ cls := "MouldVotesModel", name := "votes", desc := "(I)I" } : Jvm.MethodName)) ∈ lw_all := lw_g (lw_at lw_m8 188 rfl) rfl
theorem q1996 : (Jvm.Cond.methodLink "MouldVotesLaw" (149 : Nat) ({ cls := "MouldVotesModel", name := "days", desc := "(I)I" } : Jvm.MethodName)) ∈ lw_all := lw_g (lw_at lw_m8 196 rfl) rfl
theorem q2032 : (Jvm.Cond.methodLink "MouldVotesLaw" (152 : Nat) ({ cls := "MouldVotesModel", name := "bread", desc := "(II)I" } : Jvm.MethodName)) ∈ lw_all := lw_g (lw_at lw_m8 232 rfl) rfl
theorem q2036 : (Jvm.Cond.methodLink "MouldVotesLaw" (155 : Nat) ({ cls := "MouldVotesModel", name := "damp", desc := "(II)I" } : Jvm.MethodName)) ∈ lw_all := lw_g (lw_at lw_m8 236 rfl) rfl
theorem q2040 : (Jvm.Cond.methodLink "MouldVotesLaw" (158 : Nat) ({ cls := "MouldVotesModel", name := "sow", desc := "(II)Z" } : Jvm.MethodName)) ∈ lw_all := lw_g (lw_at lw_m9 0 rfl) rfl
theorem q2044 : (Jvm.Cond.methodLink "MouldVotesLaw" (161 : Nat) ({ cls := "MouldVotesModel", name := "scrape", desc := "(I)I" } : Jvm.MethodName)) ∈ lw_all := lw_g (lw_at lw_m9 4 rfl) rfl
theorem q2048 : (Jvm.Cond.methodLink "MouldVotesLaw" (169 : Nat) ({ cls := "MouldVotesModel", name := "then", desc := "(III)I" } : Jvm.MethodName)) ∈ lw_all := lw_g (lw_at lw_m9 8 rfl) rfl
theorem q2068 : (Jvm.Cond.methodLink "MouldVotesLaw" (172 : Nat) ({ cls := "MouldVotesModel", name := "voting", desc := "(II)I" } : Jvm.MethodName)) ∈ lw_all := lw_g (lw_at lw_m9 28 rfl) rfl
theorem q2072 : (Jvm.Cond.methodLink "MouldVotesLaw" (175 : Nat) ({ cls := "MouldVotesModel", name := "winner", desc := "(I)I" } : Jvm.MethodName)) ∈ lw_all := lw_g (lw_at lw_m9 32 rfl) rfl
theorem q2076 : (Jvm.Cond.methodLink "MouldVotesLaw" (178 : Nat) ({ cls := "MouldVotesModel", name := "first", desc := "(I)I" } : Jvm.MethodName)) ∈ lw_all := lw_g (lw_at lw_m9 36 rfl) rfl
theorem q2080 : (Jvm.Cond.methodLink "MouldVotesLaw" (182 : Nat) ({ cls := "MouldVotesModel", name := "rest", desc := "()I" } : Jvm.MethodName)) ∈ lw_all := lw_g (lw_at lw_m9 40 rfl) rfl
theorem q2084 : (Jvm.Cond.methodLink "MouldVotesLaw" (185 : Nat) ({ cls := "MouldVotesModel", name := "least", desc := "(III)I" } : Jvm.MethodName)) ∈ lw_all := lw_g (lw_at lw_m9 44 rfl) rfl
theorem q2092 : (Jvm.Cond.methodLink "MouldVotesLaw" (188 : Nat) ({ cls := "MouldVotesModel", name := "best", desc := "(II)I" } : Jvm.MethodName)) ∈ lw_all := lw_g (lw_at lw_m9 52 rfl) rfl
theorem q2096 : (Jvm.Cond.methodLink "MouldVotesLaw" (191 : Nat) ({ cls := "MouldVotesModel", name := "frost", desc := "(II)I" } : Jvm.MethodName)) ∈ lw_all := lw_g (lw_at lw_m9 56 rfl) rfl
theorem q2104 : (Jvm.Cond.methodLink "MouldVotesLaw" (195 : Nat) ({ cls := "MouldVotesModel", name := "counting", desc := "()I" } : Jvm.MethodName)) ∈ lw_all := lw_g (lw_at lw_m9 64 rfl) rfl
theorem q2109 : (Jvm.Cond.methodLink "MouldVotesLaw" (199 : Nat) ({ cls := "MouldVotesModel", name := "carry", desc := "()I" } : Jvm.MethodName)) ∈ lw_all := lw_g (lw_at lw_m9 69 rfl) rfl
theorem q2124 : (Jvm.Cond.methodLink "MouldVotesLaw" (202 : Nat) ({ cls := "MouldVotesModel", name := "decisive", desc := "(I)I" } : Jvm.MethodName)) ∈ lw_all := lw_g (lw_at lw_m9 84 rfl) rfl
theorem q2128 : (Jvm.Cond.methodLink "MouldVotesLaw" (205 : Nat) ({ cls := "MouldVotesModel", name := "see", desc := "(III)I" } : Jvm.MethodName)) ∈ lw_all := lw_g (lw_at lw_m9 88 rfl) rfl
theorem q2132 : (Jvm.Cond.methodLink "MouldVotesLaw" (209 : Nat) ({ cls := "MouldVotesModel", name := "forget", desc := "()V" } : Jvm.MethodName)) ∈ lw_all := lw_g (lw_at lw_m9 92 rfl) rfl
theorem q2136 : (Jvm.Cond.methodLink "MouldVotesLaw" (212 : Nat) ({ cls := "MouldVotesModel", name := "sown", desc := "(I)I" } : Jvm.MethodName)) ∈ lw_all := lw_g (lw_at lw_m9 96 rfl) rfl
theorem q2148 : (Jvm.Cond.methodLink "MouldVotesLaw" (215 : Nat) ({ cls := "MouldVotesModel", name := "next", desc := "(I)I" } : Jvm.MethodName)) ∈ lw_all := lw_g (lw_at lw_m9 108 rfl) rfl
theorem q2152 : (Jvm.Cond.methodLink "MouldVotesLaw" (218 : Nat) ({ cls := "MouldVotesModel", name := "frosts", desc := "(III)I" } : Jvm.MethodName)) ∈ lw_all := lw_g (lw_at lw_m9 112 rfl) rfl
theorem q2156 : (Jvm.Cond.methodLink "MouldVotesLaw" (221 : Nat) ({ cls := "MouldVotesModel", name := "game", desc := "(III)I" } : Jvm.MethodName)) ∈ lw_all := lw_g (lw_at lw_m9 116 rfl) rfl
theorem q2172 : (Jvm.Cond.methodLink "MouldVotesLaw" (224 : Nat) ({ cls := "MouldVotesModel", name := "drawn", desc := "(III)I" } : Jvm.MethodName)) ∈ lw_all := lw_g (lw_at lw_m9 132 rfl) rfl
theorem q2185 : (Jvm.Cond.methodLink "MouldVotesLaw" (227 : Nat) ({ cls := "MouldVotesModel", name := "fronts", desc := "(I)I" } : Jvm.MethodName)) ∈ lw_all := lw_g (lw_at lw_m9 145 rfl) rfl
theorem q2189 : (Jvm.Cond.methodLink "MouldVotesLaw" (230 : Nat) ({ cls := "MouldVotesModel", name := "lost", desc := "(I)I" } : Jvm.MethodName)) ∈ lw_all := lw_g (lw_at lw_m9 149 rfl) rfl
theorem q2193 : (Jvm.Cond.methodLink "MouldVotesLaw" (233 : Nat) ({ cls := "MouldVotesModel", name := "starved", desc := "(I)I" } : Jvm.MethodName)) ∈ lw_all := lw_g (lw_at lw_m9 153 rfl) rfl
theorem q2197 : (Jvm.Cond.methodLink "MouldVotesLaw" (236 : Nat) ({ cls := "MouldVotesModel", name := "margin", desc := "(I)I" } : Jvm.MethodName)) ∈ lw_all := lw_g (lw_at lw_m9 157 rfl) rfl
theorem q2201 : (Jvm.Cond.methodLink "MouldVotesLaw" (239 : Nat) ({ cls := "MouldVotesModel", name := "patch", desc := "(I)I" } : Jvm.MethodName)) ∈ lw_all := lw_g (lw_at lw_m9 161 rfl) rfl
theorem q2209 : (Jvm.Cond.methodLink "MouldVotesLaw" (242 : Nat) ({ cls := "MouldVotesModel", name := "greatest", desc := "(II)I" } : Jvm.MethodName)) ∈ lw_all := lw_g (lw_at lw_m9 169 rfl) rfl
theorem q2213 : (Jvm.Cond.methodLink "MouldVotesLaw" (245 : Nat) ({ cls := "MouldVotesModel", name := "keep", desc := "(I)I" } : Jvm.MethodName)) ∈ lw_all := lw_g (lw_at lw_m9 173 rfl) rfl
theorem q2217 : (Jvm.Cond.methodLink "MouldVotesLaw" (248 : Nat) ({ cls := "MouldVotesModel", name := "harm", desc := "(II)I" } : Jvm.MethodName)) ∈ lw_all := lw_g (lw_at lw_m9 177 rfl) rfl
theorem q2221 : (Jvm.Cond.methodLink "MouldVotesLaw" (252 : Nat) ({ cls := "MouldVotesModel", name := "image", desc := "()V" } : Jvm.MethodName)) ∈ lw_all := lw_g (lw_at lw_m9 181 rfl) rfl
theorem q2225 : (Jvm.Cond.methodLink "MouldVotesLaw" (257 : Nat) ({ cls := "MouldVotesModel", name := "restore", desc := "()Z" } : Jvm.MethodName)) ∈ lw_all := lw_g (lw_at lw_m9 185 rfl) rfl
abbrev cX0_best : ByteArray := method_17_code
def yX0_best : MethodName := ⟨RX0, "best", "(LMouldVotes;II[J)I"⟩
def dkwX0_best_0 : List UInt8 := [45, 3, 42, 27, 28, 182, 0, 59, 133, 80, 167, 0, 11, 58, 4, 4, 172, 58, 4, 5, 172, 3, 172]
abbrev dktX0_best_0 : List UInt8 := dkwX0_best_0 ++ []
theorem dksX0_best_0 : cX0_best.data.toList.drop 0 = dktX0_best_0 := by decide +kernel
theorem dX0_best_0 : decode cX0_best 0 = .ok (.aload_n 3, 1) := dk_45 (dk_at dksX0_best_0 0 rfl rfl)
theorem dX0_best_1 : decode cX0_best 1 = .ok (.iconst 0, 1) := dk_3 (dk_at dksX0_best_0 1 rfl rfl)
theorem dX0_best_2 : decode cX0_best 2 = .ok (.aload_n 0, 1) := dk_42 (dk_at dksX0_best_0 2 rfl rfl)
theorem dX0_best_3 : decode cX0_best 3 = .ok (.iload_n 1, 1) := dk_27 (dk_at dksX0_best_0 3 rfl rfl)
theorem dX0_best_4 : decode cX0_best 4 = .ok (.iload_n 2, 1) := dk_28 (dk_at dksX0_best_0 4 rfl rfl)
theorem dX0_best_5 : decode cX0_best 5 = .ok (.invokevirtual 59, 3) := dk_182 0 59 (dk_at dksX0_best_0 5 rfl rfl)
theorem dX0_best_8 : decode cX0_best 8 = .ok (.i2l, 1) := dk_133 (dk_at dksX0_best_0 8 rfl rfl)
theorem dX0_best_9 : decode cX0_best 9 = .ok (.lastore, 1) := dk_80 (dk_at dksX0_best_0 9 rfl rfl)
theorem dX0_best_10 : decode cX0_best 10 = .ok (.goto 11, 3) := dk_167 0 11 (dk_at dksX0_best_0 10 rfl rfl)
theorem dX0_best_13 : decode cX0_best 13 = .ok (.astore 4, 2) := dk_58 4 (dk_at dksX0_best_0 13 rfl rfl)
theorem dX0_best_15 : decode cX0_best 15 = .ok (.iconst 1, 1) := dk_4 (dk_at dksX0_best_0 15 rfl rfl)
theorem dX0_best_16 : decode cX0_best 16 = .ok (.ireturn, 1) := dk_172 (dk_at dksX0_best_0 16 rfl rfl)
theorem dX0_best_17 : decode cX0_best 17 = .ok (.astore 4, 2) := dk_58 4 (dk_at dksX0_best_0 17 rfl rfl)
theorem dX0_best_19 : decode cX0_best 19 = .ok (.iconst 2, 1) := dk_5 (dk_at dksX0_best_0 19 rfl rfl)
theorem dX0_best_20 : decode cX0_best 20 = .ok (.ireturn, 1) := dk_172 (dk_at dksX0_best_0 20 rfl rfl)
theorem dX0_best_21 : decode cX0_best 21 = .ok (.iconst 0, 1) := dk_3 (dk_at dksX0_best_0 21 rfl rfl)
theorem dX0_best_22 : decode cX0_best 22 = .ok (.ireturn, 1) := dk_172 (dk_at dksX0_best_0 22 rfl rfl)
abbrev mX0_best : xM := (yX0_best, cX0_best, 5, some .int, [(0, 10, 13, 18), (0, 10, 17, 13)])
theorem cX0_59 : xCV RX0 59 mX1_best 2 := ⟨lw_V q1398 q1399 q1400 q121 q1401, rfl, ⟨by decide +kernel, by decide +kernel, by decide +kernel⟩, Nat.le_of_ble_eq_true rfl⟩
theorem wl_X0_best {G : xG} (hg : gR G = fun _ => none) {L : xL} {S : MS} {v : Nat → Int64} {T T1 : xF} {x : Option Nat} {p0 : Int32} {p1 : Int32} {r : Int32} (hn : NN L T) (hx : isO T x 0 = true) (h : c_X1_best (gW G (lc L S v)) x p0 p1 T = some (.inl r, T1)) : Ct G mX0_best 128 (LWo (lc L S v) T) [va_rf x, .int p0, .int p1, .ref (lo_ L)] (.inl (some (.int 0))) (LWo (lc L S (vp_updL v 0 r.toInt64)) T1) := by
  have hd : xdl T T1 := c_X1_best_dm x p0 p1 T _ h
  have hn1 := hn.dm hd
  refine Ct.ofch (plainFor_of_name (by decide +kernel)) rfl (xvQ (xvI (xvI (xvQ (r := some (lo_ L)) xvN)))) (Nat.le_of_ble_eq_true rfl) (show Xr G _ 0 [(0, va_rf x), (1, .int p0), (2, .int p1), (3, .ref (lo_ L))] [] _ from ?_)
  refine X.aload_n dX0_best_0 rfl 3 rfl ?_
  refine X.iconst (v := 0) dX0_best_1 (by decide) ?_
  refine C.aload_n dX0_best_2 rfl 0 rfl ?_
  refine X.iload_n dX0_best_3 rfl 1 rfl ?_
  refine X.iload_n dX0_best_4 rfl 2 rfl ?_
  refine C.Vi (As := [.int p0, .int p1]) (rest := [.int 0, .ref (lo_ L)]) dX0_best_5 (Ct.frame hg (w_X1_best h)) cX0_59 (isO_LW hx) rfl rfl (Nat.le_of_ble_eq_true rfl) rfl rfl (xD (Nat.le_of_ble_eq_true rfl)) hd.2 xle.rf ?_
  refine X.i2l dX0_best_8 rfl ?_
  refine LR.last dX0_best_9 hn1 ?_
  refine X.goto (tgt := 21) dX0_best_10 (by decide) ?_
  refine X.iconst (v := 0) dX0_best_21 (by decide) ?_
  exact X.iret dX0_best_22 rfl rfl rfl
theorem wt_X0_best_1 {G : xG} (hg : gR G = fun _ => none) {L : xL} {S : MS} {v : Nat → Int64} {T T1 : xF} {x : Option Nat} {p0 : Int32} {p1 : Int32} {e : Nat} (hn : NN L T) (hx : isO T x 0 = true) (h : c_X1_best (gW G (lc L S v)) x p0 p1 T = some (.inr ("java/util/NoSuchElementException", e), T1)) : Ct G mX0_best 128 (LWo (lc L S v) T) [va_rf x, .int p0, .int p1, .ref (lo_ L)] (.inl (some (.int 1))) (LWo (lc L S v) T1) := by
  have hd : xdl T T1 := c_X1_best_dm x p0 p1 T _ h
  refine Ct.ofch (plainFor_of_name (by decide +kernel)) rfl (xvQ (xvI (xvI (xvQ (r := some (lo_ L)) xvN)))) (Nat.le_of_ble_eq_true rfl) (show Xr G _ 0 [(0, va_rf x), (1, .int p0), (2, .int p1), (3, .ref (lo_ L))] [] _ from ?_)
  refine X.aload_n dX0_best_0 rfl 3 rfl ?_
  refine X.iconst (v := 0) dX0_best_1 (by decide) ?_
  refine C.aload_n dX0_best_2 rfl 0 rfl ?_
  refine X.iload_n dX0_best_3 rfl 1 rfl ?_
  refine X.iload_n dX0_best_4 rfl 2 rfl ?_
  refine C.Vt (As := [.int p0, .int p1]) (rest := [.int 0, .ref (lo_ L)]) dX0_best_5 (Ct.frame hg (w_X1_best h)) cX0_59 (isO_LW hx) rfl rfl (Nat.le_of_ble_eq_true rfl) rfl rfl (xD (Nat.le_of_ble_eq_true rfl)) hd.2 xle.rf (Xt.catchL (pre := []) (suf := [⟨0, 10, 17, 13⟩]) (z := ⟨0, 10, 13, 18⟩) rfl (fun _ h => nomatch h) (by decide) (by decide) q1254 q1273 rfl (tgt := 13) rfl ?_)
  refine C.ast (L' := [(4, va_rf (some e)), (0, va_rf x), (1, .int p0), (2, .int p1), (3, .ref (lo_ L))]) dX0_best_13 (Nat.le_of_ble_eq_true rfl) (xcQ (xcI (xcI (xcQ (r := some (lo_ L)) xcN)))) rfl ?_
  refine X.iconst (v := 1) dX0_best_15 (by decide) ?_
  exact X.iret dX0_best_16 rfl rfl rfl
theorem wt_X0_best_2 {G : xG} (hg : gR G = fun _ => none) {L : xL} {S : MS} {v : Nat → Int64} {T T1 : xF} {x : Option Nat} {p0 : Int32} {p1 : Int32} {e : Nat} (hn : NN L T) (hx : isO T x 0 = true) (h : c_X1_best (gW G (lc L S v)) x p0 p1 T = some (.inr ("java/lang/IllegalArgumentException", e), T1)) : Ct G mX0_best 128 (LWo (lc L S v) T) [va_rf x, .int p0, .int p1, .ref (lo_ L)] (.inl (some (.int 2))) (LWo (lc L S v) T1) := by
  have hd : xdl T T1 := c_X1_best_dm x p0 p1 T _ h
  refine Ct.ofch (plainFor_of_name (by decide +kernel)) rfl (xvQ (xvI (xvI (xvQ (r := some (lo_ L)) xvN)))) (Nat.le_of_ble_eq_true rfl) (show Xr G _ 0 [(0, va_rf x), (1, .int p0), (2, .int p1), (3, .ref (lo_ L))] [] _ from ?_)
  refine X.aload_n dX0_best_0 rfl 3 rfl ?_
  refine X.iconst (v := 0) dX0_best_1 (by decide) ?_
  refine C.aload_n dX0_best_2 rfl 0 rfl ?_
  refine X.iload_n dX0_best_3 rfl 1 rfl ?_
  refine X.iload_n dX0_best_4 rfl 2 rfl ?_
  refine C.Vt (As := [.int p0, .int p1]) (rest := [.int 0, .ref (lo_ L)]) dX0_best_5 (Ct.frame hg (w_X1_best h)) cX0_59 (isO_LW hx) rfl rfl (Nat.le_of_ble_eq_true rfl) rfl rfl (xD (Nat.le_of_ble_eq_true rfl)) hd.2 xle.rf (Xt.catchL (pre := [⟨0, 10, 13, 18⟩]) (suf := []) (z := ⟨0, 10, 17, 13⟩) rfl (fun y hy => by rw [List.mem_singleton.mp hy]; exact ⟨by decide, q1254, rfl⟩) (by decide) (by decide) q733 q744 rfl (tgt := 17) rfl ?_)
  refine C.ast (L' := [(4, va_rf (some e)), (0, va_rf x), (1, .int p0), (2, .int p1), (3, .ref (lo_ L))]) dX0_best_17 (Nat.le_of_ble_eq_true rfl) (xcQ (xcI (xcI (xcQ (r := some (lo_ L)) xcN)))) rfl ?_
  refine X.iconst (v := 2) dX0_best_19 (by decide) ?_
  exact X.iret dX0_best_20 rfl rfl rfl
abbrev cX0_bread : ByteArray := method_8_code
def yX0_bread : MethodName := ⟨RX0, "bread", "(LMouldVotes;II[J)I"⟩
def dkwX0_bread_0 : List UInt8 := [45, 3, 42, 27, 28, 182, 0, 30, 133, 80, 167, 0, 7, 58, 4, 4, 172, 3, 172]
abbrev dktX0_bread_0 : List UInt8 := dkwX0_bread_0 ++ []
theorem dksX0_bread_0 : cX0_bread.data.toList.drop 0 = dktX0_bread_0 := by decide +kernel
theorem dX0_bread_0 : decode cX0_bread 0 = .ok (.aload_n 3, 1) := dk_45 (dk_at dksX0_bread_0 0 rfl rfl)
theorem dX0_bread_1 : decode cX0_bread 1 = .ok (.iconst 0, 1) := dk_3 (dk_at dksX0_bread_0 1 rfl rfl)
theorem dX0_bread_2 : decode cX0_bread 2 = .ok (.aload_n 0, 1) := dk_42 (dk_at dksX0_bread_0 2 rfl rfl)
theorem dX0_bread_3 : decode cX0_bread 3 = .ok (.iload_n 1, 1) := dk_27 (dk_at dksX0_bread_0 3 rfl rfl)
theorem dX0_bread_4 : decode cX0_bread 4 = .ok (.iload_n 2, 1) := dk_28 (dk_at dksX0_bread_0 4 rfl rfl)
theorem dX0_bread_5 : decode cX0_bread 5 = .ok (.invokevirtual 30, 3) := dk_182 0 30 (dk_at dksX0_bread_0 5 rfl rfl)
theorem dX0_bread_8 : decode cX0_bread 8 = .ok (.i2l, 1) := dk_133 (dk_at dksX0_bread_0 8 rfl rfl)
theorem dX0_bread_9 : decode cX0_bread 9 = .ok (.lastore, 1) := dk_80 (dk_at dksX0_bread_0 9 rfl rfl)
theorem dX0_bread_10 : decode cX0_bread 10 = .ok (.goto 7, 3) := dk_167 0 7 (dk_at dksX0_bread_0 10 rfl rfl)
theorem dX0_bread_13 : decode cX0_bread 13 = .ok (.astore 4, 2) := dk_58 4 (dk_at dksX0_bread_0 13 rfl rfl)
theorem dX0_bread_15 : decode cX0_bread 15 = .ok (.iconst 1, 1) := dk_4 (dk_at dksX0_bread_0 15 rfl rfl)
theorem dX0_bread_16 : decode cX0_bread 16 = .ok (.ireturn, 1) := dk_172 (dk_at dksX0_bread_0 16 rfl rfl)
theorem dX0_bread_17 : decode cX0_bread 17 = .ok (.iconst 0, 1) := dk_3 (dk_at dksX0_bread_0 17 rfl rfl)
theorem dX0_bread_18 : decode cX0_bread 18 = .ok (.ireturn, 1) := dk_172 (dk_at dksX0_bread_0 18 rfl rfl)
abbrev mX0_bread : xM := (yX0_bread, cX0_bread, 5, some .int, [(0, 10, 13, 18)])
theorem cX0_30 : xCV RX0 30 mX1_bread 2 := ⟨lw_V q1326 q1327 q1328 q121 q1329, rfl, ⟨by decide +kernel, by decide +kernel, by decide +kernel⟩, Nat.le_of_ble_eq_true rfl⟩
theorem wl_X0_bread {G : xG} (hg : gR G = fun _ => none) {L : xL} {S : MS} {v : Nat → Int64} {T T1 : xF} {x : Option Nat} {p0 : Int32} {p1 : Int32} {r : Int32} (hn : NN L T) (hx : isO T x 0 = true) (h : c_X1_bread (gW G (lc L S v)) x p0 p1 T = some (.inl r, T1)) : Ct G mX0_bread 10 (LWo (lc L S v) T) [va_rf x, .int p0, .int p1, .ref (lo_ L)] (.inl (some (.int 0))) (LWo (lc L S (vp_updL v 0 r.toInt64)) T1) := by
  have hd : xdl T T1 := c_X1_bread_dm x p0 p1 T _ h
  have hn1 := hn.dm hd
  refine Ct.ofch (plainFor_of_name (by decide +kernel)) rfl (xvQ (xvI (xvI (xvQ (r := some (lo_ L)) xvN)))) (Nat.le_of_ble_eq_true rfl) (show Xr G _ 0 [(0, va_rf x), (1, .int p0), (2, .int p1), (3, .ref (lo_ L))] [] _ from ?_)
  refine X.aload_n dX0_bread_0 rfl 3 rfl ?_
  refine X.iconst (v := 0) dX0_bread_1 (by decide) ?_
  refine C.aload_n dX0_bread_2 rfl 0 rfl ?_
  refine X.iload_n dX0_bread_3 rfl 1 rfl ?_
  refine X.iload_n dX0_bread_4 rfl 2 rfl ?_
  refine C.Vi (As := [.int p0, .int p1]) (rest := [.int 0, .ref (lo_ L)]) dX0_bread_5 (Ct.frame hg (w_X1_bread h)) cX0_30 (isO_LW hx) rfl rfl (Nat.le_of_ble_eq_true rfl) rfl rfl (xD (Nat.le_of_ble_eq_true rfl)) hd.2 xle.rf ?_
  refine X.i2l dX0_bread_8 rfl ?_
  refine LR.last dX0_bread_9 hn1 ?_
  refine X.goto (tgt := 17) dX0_bread_10 (by decide) ?_
  refine X.iconst (v := 0) dX0_bread_17 (by decide) ?_
  exact X.iret dX0_bread_18 rfl rfl rfl
theorem wt_X0_bread_1 {G : xG} (hg : gR G = fun _ => none) {L : xL} {S : MS} {v : Nat → Int64} {T T1 : xF} {x : Option Nat} {p0 : Int32} {p1 : Int32} {e : Nat} (hn : NN L T) (hx : isO T x 0 = true) (h : c_X1_bread (gW G (lc L S v)) x p0 p1 T = some (.inr ("java/util/NoSuchElementException", e), T1)) : Ct G mX0_bread 10 (LWo (lc L S v) T) [va_rf x, .int p0, .int p1, .ref (lo_ L)] (.inl (some (.int 1))) (LWo (lc L S v) T1) := by
  have hd : xdl T T1 := c_X1_bread_dm x p0 p1 T _ h
  refine Ct.ofch (plainFor_of_name (by decide +kernel)) rfl (xvQ (xvI (xvI (xvQ (r := some (lo_ L)) xvN)))) (Nat.le_of_ble_eq_true rfl) (show Xr G _ 0 [(0, va_rf x), (1, .int p0), (2, .int p1), (3, .ref (lo_ L))] [] _ from ?_)
  refine X.aload_n dX0_bread_0 rfl 3 rfl ?_
  refine X.iconst (v := 0) dX0_bread_1 (by decide) ?_
  refine C.aload_n dX0_bread_2 rfl 0 rfl ?_
  refine X.iload_n dX0_bread_3 rfl 1 rfl ?_
  refine X.iload_n dX0_bread_4 rfl 2 rfl ?_
  refine C.Vt (As := [.int p0, .int p1]) (rest := [.int 0, .ref (lo_ L)]) dX0_bread_5 (Ct.frame hg (w_X1_bread h)) cX0_30 (isO_LW hx) rfl rfl (Nat.le_of_ble_eq_true rfl) rfl rfl (xD (Nat.le_of_ble_eq_true rfl)) hd.2 xle.rf (Xt.catchL (pre := []) (suf := []) (z := ⟨0, 10, 13, 18⟩) rfl (fun _ h => nomatch h) (by decide) (by decide) q1254 q1273 rfl (tgt := 13) rfl ?_)
  refine C.ast (L' := [(4, va_rf (some e)), (0, va_rf x), (1, .int p0), (2, .int p1), (3, .ref (lo_ L))]) dX0_bread_13 (Nat.le_of_ble_eq_true rfl) (xcQ (xcI (xcI (xcQ (r := some (lo_ L)) xcN)))) rfl ?_
  refine X.iconst (v := 1) dX0_bread_15 (by decide) ?_
  exact X.iret dX0_bread_16 rfl rfl rfl
abbrev cX0_cell : ByteArray := method_5_code
def yX0_cell : MethodName := ⟨RX0, "cell", "(LMouldVotes;II[J)I"⟩
def dkwX0_cell_0 : List UInt8 := [45, 3, 42, 27, 28, 182, 0, 20, 133, 80, 167, 0, 7, 58, 4, 4, 172, 3, 172]
abbrev dktX0_cell_0 : List UInt8 := dkwX0_cell_0 ++ []
theorem dksX0_cell_0 : cX0_cell.data.toList.drop 0 = dktX0_cell_0 := by decide +kernel
theorem dX0_cell_0 : decode cX0_cell 0 = .ok (.aload_n 3, 1) := dk_45 (dk_at dksX0_cell_0 0 rfl rfl)
theorem dX0_cell_1 : decode cX0_cell 1 = .ok (.iconst 0, 1) := dk_3 (dk_at dksX0_cell_0 1 rfl rfl)
theorem dX0_cell_2 : decode cX0_cell 2 = .ok (.aload_n 0, 1) := dk_42 (dk_at dksX0_cell_0 2 rfl rfl)
theorem dX0_cell_3 : decode cX0_cell 3 = .ok (.iload_n 1, 1) := dk_27 (dk_at dksX0_cell_0 3 rfl rfl)
theorem dX0_cell_4 : decode cX0_cell 4 = .ok (.iload_n 2, 1) := dk_28 (dk_at dksX0_cell_0 4 rfl rfl)
theorem dX0_cell_5 : decode cX0_cell 5 = .ok (.invokevirtual 20, 3) := dk_182 0 20 (dk_at dksX0_cell_0 5 rfl rfl)
theorem dX0_cell_8 : decode cX0_cell 8 = .ok (.i2l, 1) := dk_133 (dk_at dksX0_cell_0 8 rfl rfl)
theorem dX0_cell_9 : decode cX0_cell 9 = .ok (.lastore, 1) := dk_80 (dk_at dksX0_cell_0 9 rfl rfl)
theorem dX0_cell_10 : decode cX0_cell 10 = .ok (.goto 7, 3) := dk_167 0 7 (dk_at dksX0_cell_0 10 rfl rfl)
theorem dX0_cell_13 : decode cX0_cell 13 = .ok (.astore 4, 2) := dk_58 4 (dk_at dksX0_cell_0 13 rfl rfl)
theorem dX0_cell_15 : decode cX0_cell 15 = .ok (.iconst 1, 1) := dk_4 (dk_at dksX0_cell_0 15 rfl rfl)
theorem dX0_cell_16 : decode cX0_cell 16 = .ok (.ireturn, 1) := dk_172 (dk_at dksX0_cell_0 16 rfl rfl)
theorem dX0_cell_17 : decode cX0_cell 17 = .ok (.iconst 0, 1) := dk_3 (dk_at dksX0_cell_0 17 rfl rfl)
theorem dX0_cell_18 : decode cX0_cell 18 = .ok (.ireturn, 1) := dk_172 (dk_at dksX0_cell_0 18 rfl rfl)
abbrev mX0_cell : xM := (yX0_cell, cX0_cell, 5, some .int, [(0, 10, 13, 18)])
theorem cX0_20 : xCV RX0 20 mX1_cell 2 := ⟨lw_V q1289 q1290 q1291 q121 q1292, rfl, ⟨by decide +kernel, by decide +kernel, by decide +kernel⟩, Nat.le_of_ble_eq_true rfl⟩
theorem wl_X0_cell {G : xG} (hg : gR G = fun _ => none) {L : xL} {S : MS} {v : Nat → Int64} {T T1 : xF} {x : Option Nat} {p0 : Int32} {p1 : Int32} {r : Int32} (hn : NN L T) (hx : isO T x 0 = true) (h : c_X1_cell (gW G (lc L S v)) x p0 p1 T = some (.inl r, T1)) : Ct G mX0_cell 123 (LWo (lc L S v) T) [va_rf x, .int p0, .int p1, .ref (lo_ L)] (.inl (some (.int 0))) (LWo (lc L S (vp_updL v 0 r.toInt64)) T1) := by
  have hd : xdl T T1 := c_X1_cell_dm x p0 p1 T _ h
  have hn1 := hn.dm hd
  refine Ct.ofch (plainFor_of_name (by decide +kernel)) rfl (xvQ (xvI (xvI (xvQ (r := some (lo_ L)) xvN)))) (Nat.le_of_ble_eq_true rfl) (show Xr G _ 0 [(0, va_rf x), (1, .int p0), (2, .int p1), (3, .ref (lo_ L))] [] _ from ?_)
  refine X.aload_n dX0_cell_0 rfl 3 rfl ?_
  refine X.iconst (v := 0) dX0_cell_1 (by decide) ?_
  refine C.aload_n dX0_cell_2 rfl 0 rfl ?_
  refine X.iload_n dX0_cell_3 rfl 1 rfl ?_
  refine X.iload_n dX0_cell_4 rfl 2 rfl ?_
  refine C.Vi (As := [.int p0, .int p1]) (rest := [.int 0, .ref (lo_ L)]) dX0_cell_5 (Ct.frame hg (w_X1_cell h)) cX0_20 (isO_LW hx) rfl rfl (Nat.le_of_ble_eq_true rfl) rfl rfl (xD (Nat.le_of_ble_eq_true rfl)) hd.2 xle.rf ?_
  refine X.i2l dX0_cell_8 rfl ?_
  refine LR.last dX0_cell_9 hn1 ?_
  refine X.goto (tgt := 17) dX0_cell_10 (by decide) ?_
  refine X.iconst (v := 0) dX0_cell_17 (by decide) ?_
  exact X.iret dX0_cell_18 rfl rfl rfl
theorem wt_X0_cell_1 {G : xG} (hg : gR G = fun _ => none) {L : xL} {S : MS} {v : Nat → Int64} {T T1 : xF} {x : Option Nat} {p0 : Int32} {p1 : Int32} {e : Nat} (hn : NN L T) (hx : isO T x 0 = true) (h : c_X1_cell (gW G (lc L S v)) x p0 p1 T = some (.inr ("java/util/NoSuchElementException", e), T1)) : Ct G mX0_cell 123 (LWo (lc L S v) T) [va_rf x, .int p0, .int p1, .ref (lo_ L)] (.inl (some (.int 1))) (LWo (lc L S v) T1) := by
  have hd : xdl T T1 := c_X1_cell_dm x p0 p1 T _ h
  refine Ct.ofch (plainFor_of_name (by decide +kernel)) rfl (xvQ (xvI (xvI (xvQ (r := some (lo_ L)) xvN)))) (Nat.le_of_ble_eq_true rfl) (show Xr G _ 0 [(0, va_rf x), (1, .int p0), (2, .int p1), (3, .ref (lo_ L))] [] _ from ?_)
  refine X.aload_n dX0_cell_0 rfl 3 rfl ?_
  refine X.iconst (v := 0) dX0_cell_1 (by decide) ?_
  refine C.aload_n dX0_cell_2 rfl 0 rfl ?_
  refine X.iload_n dX0_cell_3 rfl 1 rfl ?_
  refine X.iload_n dX0_cell_4 rfl 2 rfl ?_
  refine C.Vt (As := [.int p0, .int p1]) (rest := [.int 0, .ref (lo_ L)]) dX0_cell_5 (Ct.frame hg (w_X1_cell h)) cX0_20 (isO_LW hx) rfl rfl (Nat.le_of_ble_eq_true rfl) rfl rfl (xD (Nat.le_of_ble_eq_true rfl)) hd.2 xle.rf (Xt.catchL (pre := []) (suf := []) (z := ⟨0, 10, 13, 18⟩) rfl (fun _ h => nomatch h) (by decide) (by decide) q1254 q1273 rfl (tgt := 13) rfl ?_)
  refine C.ast (L' := [(4, va_rf (some e)), (0, va_rf x), (1, .int p0), (2, .int p1), (3, .ref (lo_ L))]) dX0_cell_13 (Nat.le_of_ble_eq_true rfl) (xcQ (xcI (xcI (xcQ (r := some (lo_ L)) xcN)))) rfl ?_
  refine X.iconst (v := 1) dX0_cell_15 (by decide) ?_
  exact X.iret dX0_cell_16 rfl rfl rfl
abbrev cX0_count : ByteArray := method_4_code
def yX0_count : MethodName := ⟨RX0, "count", "(LMouldVotes;I[J)I"⟩
def dkwX0_count_0 : List UInt8 := [44, 3, 42, 27, 182, 0, 15, 133, 80, 167, 0, 6, 78, 4, 172, 3, 172]
abbrev dktX0_count_0 : List UInt8 := dkwX0_count_0 ++ []
theorem dksX0_count_0 : cX0_count.data.toList.drop 0 = dktX0_count_0 := by decide +kernel
theorem dX0_count_0 : decode cX0_count 0 = .ok (.aload_n 2, 1) := dk_44 (dk_at dksX0_count_0 0 rfl rfl)
theorem dX0_count_1 : decode cX0_count 1 = .ok (.iconst 0, 1) := dk_3 (dk_at dksX0_count_0 1 rfl rfl)
theorem dX0_count_2 : decode cX0_count 2 = .ok (.aload_n 0, 1) := dk_42 (dk_at dksX0_count_0 2 rfl rfl)
theorem dX0_count_3 : decode cX0_count 3 = .ok (.iload_n 1, 1) := dk_27 (dk_at dksX0_count_0 3 rfl rfl)
theorem dX0_count_4 : decode cX0_count 4 = .ok (.invokevirtual 15, 3) := dk_182 0 15 (dk_at dksX0_count_0 4 rfl rfl)
theorem dX0_count_7 : decode cX0_count 7 = .ok (.i2l, 1) := dk_133 (dk_at dksX0_count_0 7 rfl rfl)
theorem dX0_count_8 : decode cX0_count 8 = .ok (.lastore, 1) := dk_80 (dk_at dksX0_count_0 8 rfl rfl)
theorem dX0_count_9 : decode cX0_count 9 = .ok (.goto 6, 3) := dk_167 0 6 (dk_at dksX0_count_0 9 rfl rfl)
theorem dX0_count_12 : decode cX0_count 12 = .ok (.astore_n 3, 1) := dk_78 (dk_at dksX0_count_0 12 rfl rfl)
theorem dX0_count_13 : decode cX0_count 13 = .ok (.iconst 1, 1) := dk_4 (dk_at dksX0_count_0 13 rfl rfl)
theorem dX0_count_14 : decode cX0_count 14 = .ok (.ireturn, 1) := dk_172 (dk_at dksX0_count_0 14 rfl rfl)
theorem dX0_count_15 : decode cX0_count 15 = .ok (.iconst 0, 1) := dk_3 (dk_at dksX0_count_0 15 rfl rfl)
theorem dX0_count_16 : decode cX0_count 16 = .ok (.ireturn, 1) := dk_172 (dk_at dksX0_count_0 16 rfl rfl)
abbrev mX0_count : xM := (yX0_count, cX0_count, 4, some .int, [(0, 9, 12, 18)])
theorem cX0_15 : xCV RX0 15 mX1_count 1 := ⟨lw_V q1255 q1256 q1257 q121 q1258, rfl, ⟨by decide +kernel, by decide +kernel, by decide +kernel⟩, Nat.le_of_ble_eq_true rfl⟩
theorem wl_X0_count {G : xG} (hg : gR G = fun _ => none) {L : xL} {S : MS} {v : Nat → Int64} {T T1 : xF} {x : Option Nat} {p0 : Int32} {r : Int32} (hn : NN L T) (hx : isO T x 0 = true) (h : c_X1_count x p0 T = some (.inl r, T1)) : Ct G mX0_count 9 (LWo (lc L S v) T) [va_rf x, .int p0, .ref (lo_ L)] (.inl (some (.int 0))) (LWo (lc L S (vp_updL v 0 r.toInt64)) T1) := by
  have hd : xdl T T1 := c_X1_count_dm x p0 T _ h
  have hn1 := hn.dm hd
  refine Ct.ofch (plainFor_of_name (by decide +kernel)) rfl (xvQ (xvI (xvQ (r := some (lo_ L)) xvN))) (Nat.le_of_ble_eq_true rfl) (show Xr G _ 0 [(0, va_rf x), (1, .int p0), (2, .ref (lo_ L))] [] _ from ?_)
  refine X.aload_n dX0_count_0 rfl 2 rfl ?_
  refine X.iconst (v := 0) dX0_count_1 (by decide) ?_
  refine C.aload_n dX0_count_2 rfl 0 rfl ?_
  refine X.iload_n dX0_count_3 rfl 1 rfl ?_
  refine C.Vi (As := [.int p0]) (rest := [.int 0, .ref (lo_ L)]) dX0_count_4 (Ct.frame hg (w_X1_count h)) cX0_15 (isO_LW hx) rfl rfl (Nat.le_of_ble_eq_true rfl) rfl rfl (xD (Nat.le_of_ble_eq_true rfl)) hd.2 xle.rf ?_
  refine X.i2l dX0_count_7 rfl ?_
  refine LR.last dX0_count_8 hn1 ?_
  refine X.goto (tgt := 15) dX0_count_9 (by decide) ?_
  refine X.iconst (v := 0) dX0_count_15 (by decide) ?_
  exact X.iret dX0_count_16 rfl rfl rfl
theorem wt_X0_count_1 {G : xG} (hg : gR G = fun _ => none) {L : xL} {S : MS} {v : Nat → Int64} {T T1 : xF} {x : Option Nat} {p0 : Int32} {e : Nat} (hn : NN L T) (hx : isO T x 0 = true) (h : c_X1_count x p0 T = some (.inr ("java/util/NoSuchElementException", e), T1)) : Ct G mX0_count 9 (LWo (lc L S v) T) [va_rf x, .int p0, .ref (lo_ L)] (.inl (some (.int 1))) (LWo (lc L S v) T1) := by
  have hd : xdl T T1 := c_X1_count_dm x p0 T _ h
  refine Ct.ofch (plainFor_of_name (by decide +kernel)) rfl (xvQ (xvI (xvQ (r := some (lo_ L)) xvN))) (Nat.le_of_ble_eq_true rfl) (show Xr G _ 0 [(0, va_rf x), (1, .int p0), (2, .ref (lo_ L))] [] _ from ?_)
  refine X.aload_n dX0_count_0 rfl 2 rfl ?_
  refine X.iconst (v := 0) dX0_count_1 (by decide) ?_
  refine C.aload_n dX0_count_2 rfl 0 rfl ?_
  refine X.iload_n dX0_count_3 rfl 1 rfl ?_
  refine C.Vt (As := [.int p0]) (rest := [.int 0, .ref (lo_ L)]) dX0_count_4 (Ct.frame hg (w_X1_count h)) cX0_15 (isO_LW hx) rfl rfl (Nat.le_of_ble_eq_true rfl) rfl rfl (xD (Nat.le_of_ble_eq_true rfl)) hd.2 xle.rf (Xt.catchL (pre := []) (suf := []) (z := ⟨0, 9, 12, 18⟩) rfl (fun _ h => nomatch h) (by decide) (by decide) q1254 q1273 rfl (tgt := 12) rfl ?_)
  refine C.ast_n (L' := [(3, va_rf (some e)), (0, va_rf x), (1, .int p0), (2, .ref (lo_ L))]) dX0_count_12 rfl (Nat.le_of_ble_eq_true rfl) (xcQ (xcI (xcQ (r := some (lo_ L)) xcN))) rfl ?_
  refine X.iconst (v := 1) dX0_count_13 (by decide) ?_
  exact X.iret dX0_count_14 rfl rfl rfl
abbrev cX0_damp : ByteArray := method_9_code
def yX0_damp : MethodName := ⟨RX0, "damp", "(LMouldVotes;II[J)I"⟩
def dkwX0_damp_0 : List UInt8 := [45, 3, 42, 27, 28, 182, 0, 33, 133, 80, 167, 0, 7, 58, 4, 4, 172, 3, 172]
abbrev dktX0_damp_0 : List UInt8 := dkwX0_damp_0 ++ []
theorem dksX0_damp_0 : cX0_damp.data.toList.drop 0 = dktX0_damp_0 := by decide +kernel
theorem dX0_damp_0 : decode cX0_damp 0 = .ok (.aload_n 3, 1) := dk_45 (dk_at dksX0_damp_0 0 rfl rfl)
theorem dX0_damp_1 : decode cX0_damp 1 = .ok (.iconst 0, 1) := dk_3 (dk_at dksX0_damp_0 1 rfl rfl)
theorem dX0_damp_2 : decode cX0_damp 2 = .ok (.aload_n 0, 1) := dk_42 (dk_at dksX0_damp_0 2 rfl rfl)
theorem dX0_damp_3 : decode cX0_damp 3 = .ok (.iload_n 1, 1) := dk_27 (dk_at dksX0_damp_0 3 rfl rfl)
theorem dX0_damp_4 : decode cX0_damp 4 = .ok (.iload_n 2, 1) := dk_28 (dk_at dksX0_damp_0 4 rfl rfl)
theorem dX0_damp_5 : decode cX0_damp 5 = .ok (.invokevirtual 33, 3) := dk_182 0 33 (dk_at dksX0_damp_0 5 rfl rfl)
theorem dX0_damp_8 : decode cX0_damp 8 = .ok (.i2l, 1) := dk_133 (dk_at dksX0_damp_0 8 rfl rfl)
theorem dX0_damp_9 : decode cX0_damp 9 = .ok (.lastore, 1) := dk_80 (dk_at dksX0_damp_0 9 rfl rfl)
theorem dX0_damp_10 : decode cX0_damp 10 = .ok (.goto 7, 3) := dk_167 0 7 (dk_at dksX0_damp_0 10 rfl rfl)
theorem dX0_damp_13 : decode cX0_damp 13 = .ok (.astore 4, 2) := dk_58 4 (dk_at dksX0_damp_0 13 rfl rfl)
theorem dX0_damp_15 : decode cX0_damp 15 = .ok (.iconst 1, 1) := dk_4 (dk_at dksX0_damp_0 15 rfl rfl)
theorem dX0_damp_16 : decode cX0_damp 16 = .ok (.ireturn, 1) := dk_172 (dk_at dksX0_damp_0 16 rfl rfl)
theorem dX0_damp_17 : decode cX0_damp 17 = .ok (.iconst 0, 1) := dk_3 (dk_at dksX0_damp_0 17 rfl rfl)
theorem dX0_damp_18 : decode cX0_damp 18 = .ok (.ireturn, 1) := dk_172 (dk_at dksX0_damp_0 18 rfl rfl)
abbrev mX0_damp : xM := (yX0_damp, cX0_damp, 5, some .int, [(0, 10, 13, 18)])
theorem cX0_33 : xCV RX0 33 mX1_damp 2 := ⟨lw_V q1337 q1338 q1339 q121 q1340, rfl, ⟨by decide +kernel, by decide +kernel, by decide +kernel⟩, Nat.le_of_ble_eq_true rfl⟩
theorem wl_X0_damp {G : xG} (hg : gR G = fun _ => none) {L : xL} {S : MS} {v : Nat → Int64} {T T1 : xF} {x : Option Nat} {p0 : Int32} {p1 : Int32} {r : Int32} (hn : NN L T) (hx : isO T x 0 = true) (h : c_X1_damp (gW G (lc L S v)) x p0 p1 T = some (.inl r, T1)) : Ct G mX0_damp 10 (LWo (lc L S v) T) [va_rf x, .int p0, .int p1, .ref (lo_ L)] (.inl (some (.int 0))) (LWo (lc L S (vp_updL v 0 r.toInt64)) T1) := by
  have hd : xdl T T1 := c_X1_damp_dm x p0 p1 T _ h
  have hn1 := hn.dm hd
  refine Ct.ofch (plainFor_of_name (by decide +kernel)) rfl (xvQ (xvI (xvI (xvQ (r := some (lo_ L)) xvN)))) (Nat.le_of_ble_eq_true rfl) (show Xr G _ 0 [(0, va_rf x), (1, .int p0), (2, .int p1), (3, .ref (lo_ L))] [] _ from ?_)
  refine X.aload_n dX0_damp_0 rfl 3 rfl ?_
  refine X.iconst (v := 0) dX0_damp_1 (by decide) ?_
  refine C.aload_n dX0_damp_2 rfl 0 rfl ?_
  refine X.iload_n dX0_damp_3 rfl 1 rfl ?_
  refine X.iload_n dX0_damp_4 rfl 2 rfl ?_
  refine C.Vi (As := [.int p0, .int p1]) (rest := [.int 0, .ref (lo_ L)]) dX0_damp_5 (Ct.frame hg (w_X1_damp h)) cX0_33 (isO_LW hx) rfl rfl (Nat.le_of_ble_eq_true rfl) rfl rfl (xD (Nat.le_of_ble_eq_true rfl)) hd.2 xle.rf ?_
  refine X.i2l dX0_damp_8 rfl ?_
  refine LR.last dX0_damp_9 hn1 ?_
  refine X.goto (tgt := 17) dX0_damp_10 (by decide) ?_
  refine X.iconst (v := 0) dX0_damp_17 (by decide) ?_
  exact X.iret dX0_damp_18 rfl rfl rfl
theorem wt_X0_damp_1 {G : xG} (hg : gR G = fun _ => none) {L : xL} {S : MS} {v : Nat → Int64} {T T1 : xF} {x : Option Nat} {p0 : Int32} {p1 : Int32} {e : Nat} (hn : NN L T) (hx : isO T x 0 = true) (h : c_X1_damp (gW G (lc L S v)) x p0 p1 T = some (.inr ("java/util/NoSuchElementException", e), T1)) : Ct G mX0_damp 10 (LWo (lc L S v) T) [va_rf x, .int p0, .int p1, .ref (lo_ L)] (.inl (some (.int 1))) (LWo (lc L S v) T1) := by
  have hd : xdl T T1 := c_X1_damp_dm x p0 p1 T _ h
  refine Ct.ofch (plainFor_of_name (by decide +kernel)) rfl (xvQ (xvI (xvI (xvQ (r := some (lo_ L)) xvN)))) (Nat.le_of_ble_eq_true rfl) (show Xr G _ 0 [(0, va_rf x), (1, .int p0), (2, .int p1), (3, .ref (lo_ L))] [] _ from ?_)
  refine X.aload_n dX0_damp_0 rfl 3 rfl ?_
  refine X.iconst (v := 0) dX0_damp_1 (by decide) ?_
  refine C.aload_n dX0_damp_2 rfl 0 rfl ?_
  refine X.iload_n dX0_damp_3 rfl 1 rfl ?_
  refine X.iload_n dX0_damp_4 rfl 2 rfl ?_
  refine C.Vt (As := [.int p0, .int p1]) (rest := [.int 0, .ref (lo_ L)]) dX0_damp_5 (Ct.frame hg (w_X1_damp h)) cX0_33 (isO_LW hx) rfl rfl (Nat.le_of_ble_eq_true rfl) rfl rfl (xD (Nat.le_of_ble_eq_true rfl)) hd.2 xle.rf (Xt.catchL (pre := []) (suf := []) (z := ⟨0, 10, 13, 18⟩) rfl (fun _ h => nomatch h) (by decide) (by decide) q1254 q1273 rfl (tgt := 13) rfl ?_)
  refine C.ast (L' := [(4, va_rf (some e)), (0, va_rf x), (1, .int p0), (2, .int p1), (3, .ref (lo_ L))]) dX0_damp_13 (Nat.le_of_ble_eq_true rfl) (xcQ (xcI (xcI (xcQ (r := some (lo_ L)) xcN)))) rfl ?_
  refine X.iconst (v := 1) dX0_damp_15 (by decide) ?_
  exact X.iret dX0_damp_16 rfl rfl rfl
abbrev cX0_decisive : ByteArray := method_19_code
def yX0_decisive : MethodName := ⟨RX0, "decisive", "(LMouldVotes;I[J)I"⟩
def dkwX0_decisive_0 : List UInt8 := [44, 3, 42, 27, 182, 0, 65, 133, 80, 167, 0, 6, 78, 4, 172, 3, 172]
abbrev dktX0_decisive_0 : List UInt8 := dkwX0_decisive_0 ++ []
theorem dksX0_decisive_0 : cX0_decisive.data.toList.drop 0 = dktX0_decisive_0 := by decide +kernel
theorem dX0_decisive_0 : decode cX0_decisive 0 = .ok (.aload_n 2, 1) := dk_44 (dk_at dksX0_decisive_0 0 rfl rfl)
theorem dX0_decisive_1 : decode cX0_decisive 1 = .ok (.iconst 0, 1) := dk_3 (dk_at dksX0_decisive_0 1 rfl rfl)
theorem dX0_decisive_2 : decode cX0_decisive 2 = .ok (.aload_n 0, 1) := dk_42 (dk_at dksX0_decisive_0 2 rfl rfl)
theorem dX0_decisive_3 : decode cX0_decisive 3 = .ok (.iload_n 1, 1) := dk_27 (dk_at dksX0_decisive_0 3 rfl rfl)
theorem dX0_decisive_4 : decode cX0_decisive 4 = .ok (.invokevirtual 65, 3) := dk_182 0 65 (dk_at dksX0_decisive_0 4 rfl rfl)
theorem dX0_decisive_7 : decode cX0_decisive 7 = .ok (.i2l, 1) := dk_133 (dk_at dksX0_decisive_0 7 rfl rfl)
theorem dX0_decisive_8 : decode cX0_decisive 8 = .ok (.lastore, 1) := dk_80 (dk_at dksX0_decisive_0 8 rfl rfl)
theorem dX0_decisive_9 : decode cX0_decisive 9 = .ok (.goto 6, 3) := dk_167 0 6 (dk_at dksX0_decisive_0 9 rfl rfl)
theorem dX0_decisive_12 : decode cX0_decisive 12 = .ok (.astore_n 3, 1) := dk_78 (dk_at dksX0_decisive_0 12 rfl rfl)
theorem dX0_decisive_13 : decode cX0_decisive 13 = .ok (.iconst 1, 1) := dk_4 (dk_at dksX0_decisive_0 13 rfl rfl)
theorem dX0_decisive_14 : decode cX0_decisive 14 = .ok (.ireturn, 1) := dk_172 (dk_at dksX0_decisive_0 14 rfl rfl)
theorem dX0_decisive_15 : decode cX0_decisive 15 = .ok (.iconst 0, 1) := dk_3 (dk_at dksX0_decisive_0 15 rfl rfl)
theorem dX0_decisive_16 : decode cX0_decisive 16 = .ok (.ireturn, 1) := dk_172 (dk_at dksX0_decisive_0 16 rfl rfl)
abbrev mX0_decisive : xM := (yX0_decisive, cX0_decisive, 4, some .int, [(0, 9, 12, 18)])
theorem cX0_65 : xCV RX0 65 mX1_decisive 1 := ⟨lw_V q1416 q1417 q1418 q121 q1419, rfl, ⟨by decide +kernel, by decide +kernel, by decide +kernel⟩, Nat.le_of_ble_eq_true rfl⟩
theorem wl_X0_decisive {G : xG} (hg : gR G = fun _ => none) {L : xL} {S : MS} {v : Nat → Int64} {T T1 : xF} {x : Option Nat} {p0 : Int32} {r : Int32} (hn : NN L T) (hx : isO T x 0 = true) (h : c_X1_decisive x p0 T = some (.inl r, T1)) : Ct G mX0_decisive 11 (LWo (lc L S v) T) [va_rf x, .int p0, .ref (lo_ L)] (.inl (some (.int 0))) (LWo (lc L S (vp_updL v 0 r.toInt64)) T1) := by
  have hd : xdl T T1 := c_X1_decisive_dm x p0 T _ h
  have hn1 := hn.dm hd
  refine Ct.ofch (plainFor_of_name (by decide +kernel)) rfl (xvQ (xvI (xvQ (r := some (lo_ L)) xvN))) (Nat.le_of_ble_eq_true rfl) (show Xr G _ 0 [(0, va_rf x), (1, .int p0), (2, .ref (lo_ L))] [] _ from ?_)
  refine X.aload_n dX0_decisive_0 rfl 2 rfl ?_
  refine X.iconst (v := 0) dX0_decisive_1 (by decide) ?_
  refine C.aload_n dX0_decisive_2 rfl 0 rfl ?_
  refine X.iload_n dX0_decisive_3 rfl 1 rfl ?_
  refine C.Vi (As := [.int p0]) (rest := [.int 0, .ref (lo_ L)]) dX0_decisive_4 (Ct.frame hg (w_X1_decisive h)) cX0_65 (isO_LW hx) rfl rfl (Nat.le_of_ble_eq_true rfl) rfl rfl (xD (Nat.le_of_ble_eq_true rfl)) hd.2 xle.rf ?_
  refine X.i2l dX0_decisive_7 rfl ?_
  refine LR.last dX0_decisive_8 hn1 ?_
  refine X.goto (tgt := 15) dX0_decisive_9 (by decide) ?_
  refine X.iconst (v := 0) dX0_decisive_15 (by decide) ?_
  exact X.iret dX0_decisive_16 rfl rfl rfl
theorem wt_X0_decisive_1 {G : xG} (hg : gR G = fun _ => none) {L : xL} {S : MS} {v : Nat → Int64} {T T1 : xF} {x : Option Nat} {p0 : Int32} {e : Nat} (hn : NN L T) (hx : isO T x 0 = true) (h : c_X1_decisive x p0 T = some (.inr ("java/util/NoSuchElementException", e), T1)) : Ct G mX0_decisive 11 (LWo (lc L S v) T) [va_rf x, .int p0, .ref (lo_ L)] (.inl (some (.int 1))) (LWo (lc L S v) T1) := by
  have hd : xdl T T1 := c_X1_decisive_dm x p0 T _ h
  refine Ct.ofch (plainFor_of_name (by decide +kernel)) rfl (xvQ (xvI (xvQ (r := some (lo_ L)) xvN))) (Nat.le_of_ble_eq_true rfl) (show Xr G _ 0 [(0, va_rf x), (1, .int p0), (2, .ref (lo_ L))] [] _ from ?_)
  refine X.aload_n dX0_decisive_0 rfl 2 rfl ?_
  refine X.iconst (v := 0) dX0_decisive_1 (by decide) ?_
  refine C.aload_n dX0_decisive_2 rfl 0 rfl ?_
  refine X.iload_n dX0_decisive_3 rfl 1 rfl ?_
  refine C.Vt (As := [.int p0]) (rest := [.int 0, .ref (lo_ L)]) dX0_decisive_4 (Ct.frame hg (w_X1_decisive h)) cX0_65 (isO_LW hx) rfl rfl (Nat.le_of_ble_eq_true rfl) rfl rfl (xD (Nat.le_of_ble_eq_true rfl)) hd.2 xle.rf (Xt.catchL (pre := []) (suf := []) (z := ⟨0, 9, 12, 18⟩) rfl (fun _ h => nomatch h) (by decide) (by decide) q1254 q1273 rfl (tgt := 12) rfl ?_)
  refine C.ast_n (L' := [(3, va_rf (some e)), (0, va_rf x), (1, .int p0), (2, .ref (lo_ L))]) dX0_decisive_12 rfl (Nat.le_of_ble_eq_true rfl) (xcQ (xcI (xcQ (r := some (lo_ L)) xcN))) rfl ?_
  refine X.iconst (v := 1) dX0_decisive_13 (by decide) ?_
  exact X.iret dX0_decisive_14 rfl rfl rfl
abbrev cX0_drawn : ByteArray := method_25_code
def yX0_drawn : MethodName := ⟨RX0, "drawn", "(LMouldVotes;III[J)I"⟩
def dkwX0_drawn_1 : List UInt8 := [172]
abbrev dktX0_drawn_1 : List UInt8 := dkwX0_drawn_1 ++ []
def dkwX0_drawn_0 : List UInt8 := [25, 4, 3, 42, 27, 28, 29, 182, 0, 83, 133, 80, 167, 0, 11, 58, 5, 4, 172, 58, 5, 5, 172, 3]
abbrev dktX0_drawn_0 : List UInt8 := dkwX0_drawn_0 ++ dktX0_drawn_1
theorem dksX0_drawn_0 : cX0_drawn.data.toList.drop 0 = dktX0_drawn_0 := by decide +kernel
theorem dksX0_drawn_1 : cX0_drawn.data.toList.drop 24 = dktX0_drawn_1 := dk_seg dksX0_drawn_0 24 rfl rfl
theorem dX0_drawn_0 : decode cX0_drawn 0 = .ok (.aload 4, 2) := dk_25 4 (dk_at dksX0_drawn_0 0 rfl rfl)
theorem dX0_drawn_2 : decode cX0_drawn 2 = .ok (.iconst 0, 1) := dk_3 (dk_at dksX0_drawn_0 2 rfl rfl)
theorem dX0_drawn_3 : decode cX0_drawn 3 = .ok (.aload_n 0, 1) := dk_42 (dk_at dksX0_drawn_0 3 rfl rfl)
theorem dX0_drawn_4 : decode cX0_drawn 4 = .ok (.iload_n 1, 1) := dk_27 (dk_at dksX0_drawn_0 4 rfl rfl)
theorem dX0_drawn_5 : decode cX0_drawn 5 = .ok (.iload_n 2, 1) := dk_28 (dk_at dksX0_drawn_0 5 rfl rfl)
theorem dX0_drawn_6 : decode cX0_drawn 6 = .ok (.iload_n 3, 1) := dk_29 (dk_at dksX0_drawn_0 6 rfl rfl)
theorem dX0_drawn_7 : decode cX0_drawn 7 = .ok (.invokevirtual 83, 3) := dk_182 0 83 (dk_at dksX0_drawn_0 7 rfl rfl)
theorem dX0_drawn_10 : decode cX0_drawn 10 = .ok (.i2l, 1) := dk_133 (dk_at dksX0_drawn_0 10 rfl rfl)
theorem dX0_drawn_11 : decode cX0_drawn 11 = .ok (.lastore, 1) := dk_80 (dk_at dksX0_drawn_0 11 rfl rfl)
theorem dX0_drawn_12 : decode cX0_drawn 12 = .ok (.goto 11, 3) := dk_167 0 11 (dk_at dksX0_drawn_0 12 rfl rfl)
theorem dX0_drawn_15 : decode cX0_drawn 15 = .ok (.astore 5, 2) := dk_58 5 (dk_at dksX0_drawn_0 15 rfl rfl)
theorem dX0_drawn_17 : decode cX0_drawn 17 = .ok (.iconst 1, 1) := dk_4 (dk_at dksX0_drawn_0 17 rfl rfl)
theorem dX0_drawn_18 : decode cX0_drawn 18 = .ok (.ireturn, 1) := dk_172 (dk_at dksX0_drawn_0 18 rfl rfl)
theorem dX0_drawn_19 : decode cX0_drawn 19 = .ok (.astore 5, 2) := dk_58 5 (dk_at dksX0_drawn_0 19 rfl rfl)
theorem dX0_drawn_21 : decode cX0_drawn 21 = .ok (.iconst 2, 1) := dk_5 (dk_at dksX0_drawn_0 21 rfl rfl)
theorem dX0_drawn_22 : decode cX0_drawn 22 = .ok (.ireturn, 1) := dk_172 (dk_at dksX0_drawn_0 22 rfl rfl)
theorem dX0_drawn_23 : decode cX0_drawn 23 = .ok (.iconst 0, 1) := dk_3 (dk_at dksX0_drawn_0 23 rfl rfl)
theorem dX0_drawn_24 : decode cX0_drawn 24 = .ok (.ireturn, 1) := dk_172 (dk_at dksX0_drawn_1 0 rfl rfl)
abbrev mX0_drawn : xM := (yX0_drawn, cX0_drawn, 6, some .int, [(0, 12, 15, 18), (0, 12, 19, 13)])
theorem cX0_83 : xCV RX0 83 mX1_drawn 3 := ⟨lw_V q1480 q1481 q1482 q121 q1483, rfl, ⟨by decide +kernel, by decide +kernel, by decide +kernel⟩, Nat.le_of_ble_eq_true rfl⟩
theorem wl_X0_drawn {G : xG} (hg : gR G = fun _ => none) {L : xL} {S : MS} {v : Nat → Int64} {T T1 : xF} {x : Option Nat} {p0 : Int32} {p1 : Int32} {p2 : Int32} {r : Int32} (hn : NN L T) (hx : isO T x 0 = true) (h : c_X1_drawn (gW G (lc L S v)) x p0 p1 p2 T = some (.inl r, T1)) : Ct G mX0_drawn 126 (LWo (lc L S v) T) [va_rf x, .int p0, .int p1, .int p2, .ref (lo_ L)] (.inl (some (.int 0))) (LWo (lc L S (vp_updL v 0 r.toInt64)) T1) := by
  have hd : xdl T T1 := c_X1_drawn_dm x p0 p1 p2 T _ h
  have hn1 := hn.dm hd
  refine Ct.ofch (plainFor_of_name (by decide +kernel)) rfl (xvQ (xvI (xvI (xvI (xvQ (r := some (lo_ L)) xvN))))) (Nat.le_of_ble_eq_true rfl) (show Xr G _ 0 [(0, va_rf x), (1, .int p0), (2, .int p1), (3, .int p2), (4, .ref (lo_ L))] [] _ from ?_)
  refine X.aload dX0_drawn_0 4 rfl ?_
  refine X.iconst (v := 0) dX0_drawn_2 (by decide) ?_
  refine C.aload_n dX0_drawn_3 rfl 0 rfl ?_
  refine X.iload_n dX0_drawn_4 rfl 1 rfl ?_
  refine X.iload_n dX0_drawn_5 rfl 2 rfl ?_
  refine X.iload_n dX0_drawn_6 rfl 3 rfl ?_
  refine C.Vi (As := [.int p0, .int p1, .int p2]) (rest := [.int 0, .ref (lo_ L)]) dX0_drawn_7 (Ct.frame hg (w_X1_drawn h)) cX0_83 (isO_LW hx) rfl rfl (Nat.le_of_ble_eq_true rfl) rfl rfl (xD (Nat.le_of_ble_eq_true rfl)) hd.2 xle.rf ?_
  refine X.i2l dX0_drawn_10 rfl ?_
  refine LR.last dX0_drawn_11 hn1 ?_
  refine X.goto (tgt := 23) dX0_drawn_12 (by decide) ?_
  refine X.iconst (v := 0) dX0_drawn_23 (by decide) ?_
  exact X.iret dX0_drawn_24 rfl rfl rfl
theorem wt_X0_drawn_1 {G : xG} (hg : gR G = fun _ => none) {L : xL} {S : MS} {v : Nat → Int64} {T T1 : xF} {x : Option Nat} {p0 : Int32} {p1 : Int32} {p2 : Int32} {e : Nat} (hn : NN L T) (hx : isO T x 0 = true) (h : c_X1_drawn (gW G (lc L S v)) x p0 p1 p2 T = some (.inr ("java/util/NoSuchElementException", e), T1)) : Ct G mX0_drawn 126 (LWo (lc L S v) T) [va_rf x, .int p0, .int p1, .int p2, .ref (lo_ L)] (.inl (some (.int 1))) (LWo (lc L S v) T1) := by
  have hd : xdl T T1 := c_X1_drawn_dm x p0 p1 p2 T _ h
  refine Ct.ofch (plainFor_of_name (by decide +kernel)) rfl (xvQ (xvI (xvI (xvI (xvQ (r := some (lo_ L)) xvN))))) (Nat.le_of_ble_eq_true rfl) (show Xr G _ 0 [(0, va_rf x), (1, .int p0), (2, .int p1), (3, .int p2), (4, .ref (lo_ L))] [] _ from ?_)
  refine X.aload dX0_drawn_0 4 rfl ?_
  refine X.iconst (v := 0) dX0_drawn_2 (by decide) ?_
  refine C.aload_n dX0_drawn_3 rfl 0 rfl ?_
  refine X.iload_n dX0_drawn_4 rfl 1 rfl ?_
  refine X.iload_n dX0_drawn_5 rfl 2 rfl ?_
  refine X.iload_n dX0_drawn_6 rfl 3 rfl ?_
  refine C.Vt (As := [.int p0, .int p1, .int p2]) (rest := [.int 0, .ref (lo_ L)]) dX0_drawn_7 (Ct.frame hg (w_X1_drawn h)) cX0_83 (isO_LW hx) rfl rfl (Nat.le_of_ble_eq_true rfl) rfl rfl (xD (Nat.le_of_ble_eq_true rfl)) hd.2 xle.rf (Xt.catchL (pre := []) (suf := [⟨0, 12, 19, 13⟩]) (z := ⟨0, 12, 15, 18⟩) rfl (fun _ h => nomatch h) (by decide) (by decide) q1254 q1273 rfl (tgt := 15) rfl ?_)
  refine C.ast (L' := [(5, va_rf (some e)), (0, va_rf x), (1, .int p0), (2, .int p1), (3, .int p2), (4, .ref (lo_ L))]) dX0_drawn_15 (Nat.le_of_ble_eq_true rfl) (xcQ (xcI (xcI (xcI (xcQ (r := some (lo_ L)) xcN))))) rfl ?_
  refine X.iconst (v := 1) dX0_drawn_17 (by decide) ?_
  exact X.iret dX0_drawn_18 rfl rfl rfl
theorem wt_X0_drawn_2 {G : xG} (hg : gR G = fun _ => none) {L : xL} {S : MS} {v : Nat → Int64} {T T1 : xF} {x : Option Nat} {p0 : Int32} {p1 : Int32} {p2 : Int32} {e : Nat} (hn : NN L T) (hx : isO T x 0 = true) (h : c_X1_drawn (gW G (lc L S v)) x p0 p1 p2 T = some (.inr ("java/lang/IllegalArgumentException", e), T1)) : Ct G mX0_drawn 126 (LWo (lc L S v) T) [va_rf x, .int p0, .int p1, .int p2, .ref (lo_ L)] (.inl (some (.int 2))) (LWo (lc L S v) T1) := by
  have hd : xdl T T1 := c_X1_drawn_dm x p0 p1 p2 T _ h
  refine Ct.ofch (plainFor_of_name (by decide +kernel)) rfl (xvQ (xvI (xvI (xvI (xvQ (r := some (lo_ L)) xvN))))) (Nat.le_of_ble_eq_true rfl) (show Xr G _ 0 [(0, va_rf x), (1, .int p0), (2, .int p1), (3, .int p2), (4, .ref (lo_ L))] [] _ from ?_)
  refine X.aload dX0_drawn_0 4 rfl ?_
  refine X.iconst (v := 0) dX0_drawn_2 (by decide) ?_
  refine C.aload_n dX0_drawn_3 rfl 0 rfl ?_
  refine X.iload_n dX0_drawn_4 rfl 1 rfl ?_
  refine X.iload_n dX0_drawn_5 rfl 2 rfl ?_
  refine X.iload_n dX0_drawn_6 rfl 3 rfl ?_
  refine C.Vt (As := [.int p0, .int p1, .int p2]) (rest := [.int 0, .ref (lo_ L)]) dX0_drawn_7 (Ct.frame hg (w_X1_drawn h)) cX0_83 (isO_LW hx) rfl rfl (Nat.le_of_ble_eq_true rfl) rfl rfl (xD (Nat.le_of_ble_eq_true rfl)) hd.2 xle.rf (Xt.catchL (pre := [⟨0, 12, 15, 18⟩]) (suf := []) (z := ⟨0, 12, 19, 13⟩) rfl (fun y hy => by rw [List.mem_singleton.mp hy]; exact ⟨by decide, q1254, rfl⟩) (by decide) (by decide) q733 q744 rfl (tgt := 19) rfl ?_)
  refine C.ast (L' := [(5, va_rf (some e)), (0, va_rf x), (1, .int p0), (2, .int p1), (3, .int p2), (4, .ref (lo_ L))]) dX0_drawn_19 (Nat.le_of_ble_eq_true rfl) (xcQ (xcI (xcI (xcI (xcQ (r := some (lo_ L)) xcN))))) rfl ?_
  refine X.iconst (v := 2) dX0_drawn_21 (by decide) ?_
  exact X.iret dX0_drawn_22 rfl rfl rfl
abbrev cX0_first : ByteArray := method_15_code
def yX0_first : MethodName := ⟨RX0, "first", "(LMouldVotes;I[J)I"⟩
def dkwX0_first_0 : List UInt8 := [44, 3, 42, 27, 182, 0, 53, 133, 80, 167, 0, 6, 78, 4, 172, 3, 172]
abbrev dktX0_first_0 : List UInt8 := dkwX0_first_0 ++ []
theorem dksX0_first_0 : cX0_first.data.toList.drop 0 = dktX0_first_0 := by decide +kernel
theorem dX0_first_0 : decode cX0_first 0 = .ok (.aload_n 2, 1) := dk_44 (dk_at dksX0_first_0 0 rfl rfl)
theorem dX0_first_1 : decode cX0_first 1 = .ok (.iconst 0, 1) := dk_3 (dk_at dksX0_first_0 1 rfl rfl)
theorem dX0_first_2 : decode cX0_first 2 = .ok (.aload_n 0, 1) := dk_42 (dk_at dksX0_first_0 2 rfl rfl)
theorem dX0_first_3 : decode cX0_first 3 = .ok (.iload_n 1, 1) := dk_27 (dk_at dksX0_first_0 3 rfl rfl)
theorem dX0_first_4 : decode cX0_first 4 = .ok (.invokevirtual 53, 3) := dk_182 0 53 (dk_at dksX0_first_0 4 rfl rfl)
theorem dX0_first_7 : decode cX0_first 7 = .ok (.i2l, 1) := dk_133 (dk_at dksX0_first_0 7 rfl rfl)
theorem dX0_first_8 : decode cX0_first 8 = .ok (.lastore, 1) := dk_80 (dk_at dksX0_first_0 8 rfl rfl)
theorem dX0_first_9 : decode cX0_first 9 = .ok (.goto 6, 3) := dk_167 0 6 (dk_at dksX0_first_0 9 rfl rfl)
theorem dX0_first_12 : decode cX0_first 12 = .ok (.astore_n 3, 1) := dk_78 (dk_at dksX0_first_0 12 rfl rfl)
theorem dX0_first_13 : decode cX0_first 13 = .ok (.iconst 1, 1) := dk_4 (dk_at dksX0_first_0 13 rfl rfl)
theorem dX0_first_14 : decode cX0_first 14 = .ok (.ireturn, 1) := dk_172 (dk_at dksX0_first_0 14 rfl rfl)
theorem dX0_first_15 : decode cX0_first 15 = .ok (.iconst 0, 1) := dk_3 (dk_at dksX0_first_0 15 rfl rfl)
theorem dX0_first_16 : decode cX0_first 16 = .ok (.ireturn, 1) := dk_172 (dk_at dksX0_first_0 16 rfl rfl)
abbrev mX0_first : xM := (yX0_first, cX0_first, 4, some .int, [(0, 9, 12, 18)])
theorem cX0_53 : xCV RX0 53 mX1_first 1 := ⟨lw_V q1384 q1385 q1386 q121 q1387, rfl, ⟨by decide +kernel, by decide +kernel, by decide +kernel⟩, Nat.le_of_ble_eq_true rfl⟩
theorem wl_X0_first {G : xG} (hg : gR G = fun _ => none) {L : xL} {S : MS} {v : Nat → Int64} {T T1 : xF} {x : Option Nat} {p0 : Int32} {r : Int32} (hn : NN L T) (hx : isO T x 0 = true) (h : c_X1_first (gW G (lc L S v)) x p0 T = some (.inl r, T1)) : Ct G mX0_first 126 (LWo (lc L S v) T) [va_rf x, .int p0, .ref (lo_ L)] (.inl (some (.int 0))) (LWo (lc L S (vp_updL v 0 r.toInt64)) T1) := by
  have hd : xdl T T1 := c_X1_first_dm x p0 T _ h
  have hn1 := hn.dm hd
  refine Ct.ofch (plainFor_of_name (by decide +kernel)) rfl (xvQ (xvI (xvQ (r := some (lo_ L)) xvN))) (Nat.le_of_ble_eq_true rfl) (show Xr G _ 0 [(0, va_rf x), (1, .int p0), (2, .ref (lo_ L))] [] _ from ?_)
  refine X.aload_n dX0_first_0 rfl 2 rfl ?_
  refine X.iconst (v := 0) dX0_first_1 (by decide) ?_
  refine C.aload_n dX0_first_2 rfl 0 rfl ?_
  refine X.iload_n dX0_first_3 rfl 1 rfl ?_
  refine C.Vi (As := [.int p0]) (rest := [.int 0, .ref (lo_ L)]) dX0_first_4 (Ct.frame hg (w_X1_first h)) cX0_53 (isO_LW hx) rfl rfl (Nat.le_of_ble_eq_true rfl) rfl rfl (xD (Nat.le_of_ble_eq_true rfl)) hd.2 xle.rf ?_
  refine X.i2l dX0_first_7 rfl ?_
  refine LR.last dX0_first_8 hn1 ?_
  refine X.goto (tgt := 15) dX0_first_9 (by decide) ?_
  refine X.iconst (v := 0) dX0_first_15 (by decide) ?_
  exact X.iret dX0_first_16 rfl rfl rfl
theorem wt_X0_first_1 {G : xG} (hg : gR G = fun _ => none) {L : xL} {S : MS} {v : Nat → Int64} {T T1 : xF} {x : Option Nat} {p0 : Int32} {e : Nat} (hn : NN L T) (hx : isO T x 0 = true) (h : c_X1_first (gW G (lc L S v)) x p0 T = some (.inr ("java/util/NoSuchElementException", e), T1)) : Ct G mX0_first 126 (LWo (lc L S v) T) [va_rf x, .int p0, .ref (lo_ L)] (.inl (some (.int 1))) (LWo (lc L S v) T1) := by
  have hd : xdl T T1 := c_X1_first_dm x p0 T _ h
  refine Ct.ofch (plainFor_of_name (by decide +kernel)) rfl (xvQ (xvI (xvQ (r := some (lo_ L)) xvN))) (Nat.le_of_ble_eq_true rfl) (show Xr G _ 0 [(0, va_rf x), (1, .int p0), (2, .ref (lo_ L))] [] _ from ?_)
  refine X.aload_n dX0_first_0 rfl 2 rfl ?_
  refine X.iconst (v := 0) dX0_first_1 (by decide) ?_
  refine C.aload_n dX0_first_2 rfl 0 rfl ?_
  refine X.iload_n dX0_first_3 rfl 1 rfl ?_
  refine C.Vt (As := [.int p0]) (rest := [.int 0, .ref (lo_ L)]) dX0_first_4 (Ct.frame hg (w_X1_first h)) cX0_53 (isO_LW hx) rfl rfl (Nat.le_of_ble_eq_true rfl) rfl rfl (xD (Nat.le_of_ble_eq_true rfl)) hd.2 xle.rf (Xt.catchL (pre := []) (suf := []) (z := ⟨0, 9, 12, 18⟩) rfl (fun _ h => nomatch h) (by decide) (by decide) q1254 q1273 rfl (tgt := 12) rfl ?_)
  refine C.ast_n (L' := [(3, va_rf (some e)), (0, va_rf x), (1, .int p0), (2, .ref (lo_ L))]) dX0_first_12 rfl (Nat.le_of_ble_eq_true rfl) (xcQ (xcI (xcQ (r := some (lo_ L)) xcN))) rfl ?_
  refine X.iconst (v := 1) dX0_first_13 (by decide) ?_
  exact X.iret dX0_first_14 rfl rfl rfl
abbrev cX0_fronts : ByteArray := method_26_code
def yX0_fronts : MethodName := ⟨RX0, "fronts", "(LMouldVotes;I[J)I"⟩
def dkwX0_fronts_0 : List UInt8 := [44, 3, 42, 27, 182, 0, 86, 133, 80, 167, 0, 6, 78, 4, 172, 3, 172]
abbrev dktX0_fronts_0 : List UInt8 := dkwX0_fronts_0 ++ []
theorem dksX0_fronts_0 : cX0_fronts.data.toList.drop 0 = dktX0_fronts_0 := by decide +kernel
theorem dX0_fronts_0 : decode cX0_fronts 0 = .ok (.aload_n 2, 1) := dk_44 (dk_at dksX0_fronts_0 0 rfl rfl)
theorem dX0_fronts_1 : decode cX0_fronts 1 = .ok (.iconst 0, 1) := dk_3 (dk_at dksX0_fronts_0 1 rfl rfl)
theorem dX0_fronts_2 : decode cX0_fronts 2 = .ok (.aload_n 0, 1) := dk_42 (dk_at dksX0_fronts_0 2 rfl rfl)
theorem dX0_fronts_3 : decode cX0_fronts 3 = .ok (.iload_n 1, 1) := dk_27 (dk_at dksX0_fronts_0 3 rfl rfl)
theorem dX0_fronts_4 : decode cX0_fronts 4 = .ok (.invokevirtual 86, 3) := dk_182 0 86 (dk_at dksX0_fronts_0 4 rfl rfl)
theorem dX0_fronts_7 : decode cX0_fronts 7 = .ok (.i2l, 1) := dk_133 (dk_at dksX0_fronts_0 7 rfl rfl)
theorem dX0_fronts_8 : decode cX0_fronts 8 = .ok (.lastore, 1) := dk_80 (dk_at dksX0_fronts_0 8 rfl rfl)
theorem dX0_fronts_9 : decode cX0_fronts 9 = .ok (.goto 6, 3) := dk_167 0 6 (dk_at dksX0_fronts_0 9 rfl rfl)
theorem dX0_fronts_12 : decode cX0_fronts 12 = .ok (.astore_n 3, 1) := dk_78 (dk_at dksX0_fronts_0 12 rfl rfl)
theorem dX0_fronts_13 : decode cX0_fronts 13 = .ok (.iconst 1, 1) := dk_4 (dk_at dksX0_fronts_0 13 rfl rfl)
theorem dX0_fronts_14 : decode cX0_fronts 14 = .ok (.ireturn, 1) := dk_172 (dk_at dksX0_fronts_0 14 rfl rfl)
theorem dX0_fronts_15 : decode cX0_fronts 15 = .ok (.iconst 0, 1) := dk_3 (dk_at dksX0_fronts_0 15 rfl rfl)
theorem dX0_fronts_16 : decode cX0_fronts 16 = .ok (.ireturn, 1) := dk_172 (dk_at dksX0_fronts_0 16 rfl rfl)
abbrev mX0_fronts : xM := (yX0_fronts, cX0_fronts, 4, some .int, [(0, 9, 12, 13)])
theorem cX0_86 : xCV RX0 86 mX1_fronts 1 := ⟨lw_V q1496 q1497 q1498 q121 q1499, rfl, ⟨by decide +kernel, by decide +kernel, by decide +kernel⟩, Nat.le_of_ble_eq_true rfl⟩
theorem wl_X0_fronts {G : xG} (hg : gR G = fun _ => none) {L : xL} {S : MS} {v : Nat → Int64} {T T1 : xF} {x : Option Nat} {p0 : Int32} {r : Int32} (hn : NN L T) (hx : isO T x 0 = true) (h : c_X1_fronts (gW G (lc L S v)) x p0 T = some (.inl r, T1)) : Ct G mX0_fronts 128 (LWo (lc L S v) T) [va_rf x, .int p0, .ref (lo_ L)] (.inl (some (.int 0))) (LWo (lc L S (vp_updL v 0 r.toInt64)) T1) := by
  have hd : xdl T T1 := c_X1_fronts_dm x p0 T _ h
  have hn1 := hn.dm hd
  refine Ct.ofch (plainFor_of_name (by decide +kernel)) rfl (xvQ (xvI (xvQ (r := some (lo_ L)) xvN))) (Nat.le_of_ble_eq_true rfl) (show Xr G _ 0 [(0, va_rf x), (1, .int p0), (2, .ref (lo_ L))] [] _ from ?_)
  refine X.aload_n dX0_fronts_0 rfl 2 rfl ?_
  refine X.iconst (v := 0) dX0_fronts_1 (by decide) ?_
  refine C.aload_n dX0_fronts_2 rfl 0 rfl ?_
  refine X.iload_n dX0_fronts_3 rfl 1 rfl ?_
  refine C.Vi (As := [.int p0]) (rest := [.int 0, .ref (lo_ L)]) dX0_fronts_4 (Ct.frame hg (w_X1_fronts h)) cX0_86 (isO_LW hx) rfl rfl (Nat.le_of_ble_eq_true rfl) rfl rfl (xD (Nat.le_of_ble_eq_true rfl)) hd.2 xle.rf ?_
  refine X.i2l dX0_fronts_7 rfl ?_
  refine LR.last dX0_fronts_8 hn1 ?_
  refine X.goto (tgt := 15) dX0_fronts_9 (by decide) ?_
  refine X.iconst (v := 0) dX0_fronts_15 (by decide) ?_
  exact X.iret dX0_fronts_16 rfl rfl rfl
theorem wt_X0_fronts_1 {G : xG} (hg : gR G = fun _ => none) {L : xL} {S : MS} {v : Nat → Int64} {T T1 : xF} {x : Option Nat} {p0 : Int32} {e : Nat} (hn : NN L T) (hx : isO T x 0 = true) (h : c_X1_fronts (gW G (lc L S v)) x p0 T = some (.inr ("java/lang/IllegalArgumentException", e), T1)) : Ct G mX0_fronts 128 (LWo (lc L S v) T) [va_rf x, .int p0, .ref (lo_ L)] (.inl (some (.int 1))) (LWo (lc L S v) T1) := by
  have hd : xdl T T1 := c_X1_fronts_dm x p0 T _ h
  refine Ct.ofch (plainFor_of_name (by decide +kernel)) rfl (xvQ (xvI (xvQ (r := some (lo_ L)) xvN))) (Nat.le_of_ble_eq_true rfl) (show Xr G _ 0 [(0, va_rf x), (1, .int p0), (2, .ref (lo_ L))] [] _ from ?_)
  refine X.aload_n dX0_fronts_0 rfl 2 rfl ?_
  refine X.iconst (v := 0) dX0_fronts_1 (by decide) ?_
  refine C.aload_n dX0_fronts_2 rfl 0 rfl ?_
  refine X.iload_n dX0_fronts_3 rfl 1 rfl ?_
  refine C.Vt (As := [.int p0]) (rest := [.int 0, .ref (lo_ L)]) dX0_fronts_4 (Ct.frame hg (w_X1_fronts h)) cX0_86 (isO_LW hx) rfl rfl (Nat.le_of_ble_eq_true rfl) rfl rfl (xD (Nat.le_of_ble_eq_true rfl)) hd.2 xle.rf (Xt.catchL (pre := []) (suf := []) (z := ⟨0, 9, 12, 13⟩) rfl (fun _ h => nomatch h) (by decide) (by decide) q733 q744 rfl (tgt := 12) rfl ?_)
  refine C.ast_n (L' := [(3, va_rf (some e)), (0, va_rf x), (1, .int p0), (2, .ref (lo_ L))]) dX0_fronts_12 rfl (Nat.le_of_ble_eq_true rfl) (xcQ (xcI (xcQ (r := some (lo_ L)) xcN))) rfl ?_
  refine X.iconst (v := 1) dX0_fronts_13 (by decide) ?_
  exact X.iret dX0_fronts_14 rfl rfl rfl
abbrev cX0_frost : ByteArray := method_18_code
def yX0_frost : MethodName := ⟨RX0, "frost", "(LMouldVotes;II[J)I"⟩
def dkwX0_frost_0 : List UInt8 := [45, 3, 42, 27, 28, 182, 0, 62, 133, 80, 167, 0, 11, 58, 4, 4, 172, 58, 4, 5, 172, 3, 172]
abbrev dktX0_frost_0 : List UInt8 := dkwX0_frost_0 ++ []
theorem dksX0_frost_0 : cX0_frost.data.toList.drop 0 = dktX0_frost_0 := by decide +kernel
theorem dX0_frost_0 : decode cX0_frost 0 = .ok (.aload_n 3, 1) := dk_45 (dk_at dksX0_frost_0 0 rfl rfl)
theorem dX0_frost_1 : decode cX0_frost 1 = .ok (.iconst 0, 1) := dk_3 (dk_at dksX0_frost_0 1 rfl rfl)
theorem dX0_frost_2 : decode cX0_frost 2 = .ok (.aload_n 0, 1) := dk_42 (dk_at dksX0_frost_0 2 rfl rfl)
theorem dX0_frost_3 : decode cX0_frost 3 = .ok (.iload_n 1, 1) := dk_27 (dk_at dksX0_frost_0 3 rfl rfl)
theorem dX0_frost_4 : decode cX0_frost 4 = .ok (.iload_n 2, 1) := dk_28 (dk_at dksX0_frost_0 4 rfl rfl)
theorem dX0_frost_5 : decode cX0_frost 5 = .ok (.invokevirtual 62, 3) := dk_182 0 62 (dk_at dksX0_frost_0 5 rfl rfl)
theorem dX0_frost_8 : decode cX0_frost 8 = .ok (.i2l, 1) := dk_133 (dk_at dksX0_frost_0 8 rfl rfl)
theorem dX0_frost_9 : decode cX0_frost 9 = .ok (.lastore, 1) := dk_80 (dk_at dksX0_frost_0 9 rfl rfl)
theorem dX0_frost_10 : decode cX0_frost 10 = .ok (.goto 11, 3) := dk_167 0 11 (dk_at dksX0_frost_0 10 rfl rfl)
theorem dX0_frost_13 : decode cX0_frost 13 = .ok (.astore 4, 2) := dk_58 4 (dk_at dksX0_frost_0 13 rfl rfl)
theorem dX0_frost_15 : decode cX0_frost 15 = .ok (.iconst 1, 1) := dk_4 (dk_at dksX0_frost_0 15 rfl rfl)
theorem dX0_frost_16 : decode cX0_frost 16 = .ok (.ireturn, 1) := dk_172 (dk_at dksX0_frost_0 16 rfl rfl)
theorem dX0_frost_17 : decode cX0_frost 17 = .ok (.astore 4, 2) := dk_58 4 (dk_at dksX0_frost_0 17 rfl rfl)
theorem dX0_frost_19 : decode cX0_frost 19 = .ok (.iconst 2, 1) := dk_5 (dk_at dksX0_frost_0 19 rfl rfl)
theorem dX0_frost_20 : decode cX0_frost 20 = .ok (.ireturn, 1) := dk_172 (dk_at dksX0_frost_0 20 rfl rfl)
theorem dX0_frost_21 : decode cX0_frost 21 = .ok (.iconst 0, 1) := dk_3 (dk_at dksX0_frost_0 21 rfl rfl)
theorem dX0_frost_22 : decode cX0_frost 22 = .ok (.ireturn, 1) := dk_172 (dk_at dksX0_frost_0 22 rfl rfl)
abbrev mX0_frost : xM := (yX0_frost, cX0_frost, 5, some .int, [(0, 10, 13, 18), (0, 10, 17, 13)])
theorem cX0_62 : xCV RX0 62 mX1_frost 2 := ⟨lw_V q1405 q1406 q1407 q121 q1408, rfl, ⟨by decide +kernel, by decide +kernel, by decide +kernel⟩, Nat.le_of_ble_eq_true rfl⟩
theorem wl_X0_frost {G : xG} (hg : gR G = fun _ => none) {L : xL} {S : MS} {v : Nat → Int64} {T T1 : xF} {x : Option Nat} {p0 : Int32} {p1 : Int32} {r : Int32} (hn : NN L T) (hx : isO T x 0 = true) (h : c_X1_frost (gW G (lc L S v)) x p0 p1 T = some (.inl r, T1)) : Ct G mX0_frost 127 (LWo (lc L S v) T) [va_rf x, .int p0, .int p1, .ref (lo_ L)] (.inl (some (.int 0))) (LWo (lc L S (vp_updL v 0 r.toInt64)) T1) := by
  have hd : xdl T T1 := c_X1_frost_dm x p0 p1 T _ h
  have hn1 := hn.dm hd
  refine Ct.ofch (plainFor_of_name (by decide +kernel)) rfl (xvQ (xvI (xvI (xvQ (r := some (lo_ L)) xvN)))) (Nat.le_of_ble_eq_true rfl) (show Xr G _ 0 [(0, va_rf x), (1, .int p0), (2, .int p1), (3, .ref (lo_ L))] [] _ from ?_)
  refine X.aload_n dX0_frost_0 rfl 3 rfl ?_
  refine X.iconst (v := 0) dX0_frost_1 (by decide) ?_
  refine C.aload_n dX0_frost_2 rfl 0 rfl ?_
  refine X.iload_n dX0_frost_3 rfl 1 rfl ?_
  refine X.iload_n dX0_frost_4 rfl 2 rfl ?_
  refine C.Vi (As := [.int p0, .int p1]) (rest := [.int 0, .ref (lo_ L)]) dX0_frost_5 (Ct.frame hg (w_X1_frost h)) cX0_62 (isO_LW hx) rfl rfl (Nat.le_of_ble_eq_true rfl) rfl rfl (xD (Nat.le_of_ble_eq_true rfl)) hd.2 xle.rf ?_
  refine X.i2l dX0_frost_8 rfl ?_
  refine LR.last dX0_frost_9 hn1 ?_
  refine X.goto (tgt := 21) dX0_frost_10 (by decide) ?_
  refine X.iconst (v := 0) dX0_frost_21 (by decide) ?_
  exact X.iret dX0_frost_22 rfl rfl rfl
theorem wt_X0_frost_1 {G : xG} (hg : gR G = fun _ => none) {L : xL} {S : MS} {v : Nat → Int64} {T T1 : xF} {x : Option Nat} {p0 : Int32} {p1 : Int32} {e : Nat} (hn : NN L T) (hx : isO T x 0 = true) (h : c_X1_frost (gW G (lc L S v)) x p0 p1 T = some (.inr ("java/util/NoSuchElementException", e), T1)) : Ct G mX0_frost 127 (LWo (lc L S v) T) [va_rf x, .int p0, .int p1, .ref (lo_ L)] (.inl (some (.int 1))) (LWo (lc L S v) T1) := by
  have hd : xdl T T1 := c_X1_frost_dm x p0 p1 T _ h
  refine Ct.ofch (plainFor_of_name (by decide +kernel)) rfl (xvQ (xvI (xvI (xvQ (r := some (lo_ L)) xvN)))) (Nat.le_of_ble_eq_true rfl) (show Xr G _ 0 [(0, va_rf x), (1, .int p0), (2, .int p1), (3, .ref (lo_ L))] [] _ from ?_)
  refine X.aload_n dX0_frost_0 rfl 3 rfl ?_
  refine X.iconst (v := 0) dX0_frost_1 (by decide) ?_
  refine C.aload_n dX0_frost_2 rfl 0 rfl ?_
  refine X.iload_n dX0_frost_3 rfl 1 rfl ?_
  refine X.iload_n dX0_frost_4 rfl 2 rfl ?_
  refine C.Vt (As := [.int p0, .int p1]) (rest := [.int 0, .ref (lo_ L)]) dX0_frost_5 (Ct.frame hg (w_X1_frost h)) cX0_62 (isO_LW hx) rfl rfl (Nat.le_of_ble_eq_true rfl) rfl rfl (xD (Nat.le_of_ble_eq_true rfl)) hd.2 xle.rf (Xt.catchL (pre := []) (suf := [⟨0, 10, 17, 13⟩]) (z := ⟨0, 10, 13, 18⟩) rfl (fun _ h => nomatch h) (by decide) (by decide) q1254 q1273 rfl (tgt := 13) rfl ?_)
  refine C.ast (L' := [(4, va_rf (some e)), (0, va_rf x), (1, .int p0), (2, .int p1), (3, .ref (lo_ L))]) dX0_frost_13 (Nat.le_of_ble_eq_true rfl) (xcQ (xcI (xcI (xcQ (r := some (lo_ L)) xcN)))) rfl ?_
  refine X.iconst (v := 1) dX0_frost_15 (by decide) ?_
  exact X.iret dX0_frost_16 rfl rfl rfl
theorem wt_X0_frost_2 {G : xG} (hg : gR G = fun _ => none) {L : xL} {S : MS} {v : Nat → Int64} {T T1 : xF} {x : Option Nat} {p0 : Int32} {p1 : Int32} {e : Nat} (hn : NN L T) (hx : isO T x 0 = true) (h : c_X1_frost (gW G (lc L S v)) x p0 p1 T = some (.inr ("java/lang/IllegalArgumentException", e), T1)) : Ct G mX0_frost 127 (LWo (lc L S v) T) [va_rf x, .int p0, .int p1, .ref (lo_ L)] (.inl (some (.int 2))) (LWo (lc L S v) T1) := by
  have hd : xdl T T1 := c_X1_frost_dm x p0 p1 T _ h
  refine Ct.ofch (plainFor_of_name (by decide +kernel)) rfl (xvQ (xvI (xvI (xvQ (r := some (lo_ L)) xvN)))) (Nat.le_of_ble_eq_true rfl) (show Xr G _ 0 [(0, va_rf x), (1, .int p0), (2, .int p1), (3, .ref (lo_ L))] [] _ from ?_)
  refine X.aload_n dX0_frost_0 rfl 3 rfl ?_
  refine X.iconst (v := 0) dX0_frost_1 (by decide) ?_
  refine C.aload_n dX0_frost_2 rfl 0 rfl ?_
  refine X.iload_n dX0_frost_3 rfl 1 rfl ?_
  refine X.iload_n dX0_frost_4 rfl 2 rfl ?_
  refine C.Vt (As := [.int p0, .int p1]) (rest := [.int 0, .ref (lo_ L)]) dX0_frost_5 (Ct.frame hg (w_X1_frost h)) cX0_62 (isO_LW hx) rfl rfl (Nat.le_of_ble_eq_true rfl) rfl rfl (xD (Nat.le_of_ble_eq_true rfl)) hd.2 xle.rf (Xt.catchL (pre := [⟨0, 10, 13, 18⟩]) (suf := []) (z := ⟨0, 10, 17, 13⟩) rfl (fun y hy => by rw [List.mem_singleton.mp hy]; exact ⟨by decide, q1254, rfl⟩) (by decide) (by decide) q733 q744 rfl (tgt := 17) rfl ?_)
  refine C.ast (L' := [(4, va_rf (some e)), (0, va_rf x), (1, .int p0), (2, .int p1), (3, .ref (lo_ L))]) dX0_frost_17 (Nat.le_of_ble_eq_true rfl) (xcQ (xcI (xcI (xcQ (r := some (lo_ L)) xcN)))) rfl ?_
  refine X.iconst (v := 2) dX0_frost_19 (by decide) ?_
  exact X.iret dX0_frost_20 rfl rfl rfl
abbrev cX0_frosts : ByteArray := method_23_code
def yX0_frosts : MethodName := ⟨RX0, "frosts", "(LMouldVotes;III[J)I"⟩
def dkwX0_frosts_1 : List UInt8 := [172]
abbrev dktX0_frosts_1 : List UInt8 := dkwX0_frosts_1 ++ []
def dkwX0_frosts_0 : List UInt8 := [25, 4, 3, 42, 27, 28, 29, 182, 0, 77, 133, 80, 167, 0, 11, 58, 5, 4, 172, 58, 5, 5, 172, 3]
abbrev dktX0_frosts_0 : List UInt8 := dkwX0_frosts_0 ++ dktX0_frosts_1
theorem dksX0_frosts_0 : cX0_frosts.data.toList.drop 0 = dktX0_frosts_0 := by decide +kernel
theorem dksX0_frosts_1 : cX0_frosts.data.toList.drop 24 = dktX0_frosts_1 := dk_seg dksX0_frosts_0 24 rfl rfl
theorem dX0_frosts_0 : decode cX0_frosts 0 = .ok (.aload 4, 2) := dk_25 4 (dk_at dksX0_frosts_0 0 rfl rfl)
theorem dX0_frosts_2 : decode cX0_frosts 2 = .ok (.iconst 0, 1) := dk_3 (dk_at dksX0_frosts_0 2 rfl rfl)
theorem dX0_frosts_3 : decode cX0_frosts 3 = .ok (.aload_n 0, 1) := dk_42 (dk_at dksX0_frosts_0 3 rfl rfl)
theorem dX0_frosts_4 : decode cX0_frosts 4 = .ok (.iload_n 1, 1) := dk_27 (dk_at dksX0_frosts_0 4 rfl rfl)
theorem dX0_frosts_5 : decode cX0_frosts 5 = .ok (.iload_n 2, 1) := dk_28 (dk_at dksX0_frosts_0 5 rfl rfl)
theorem dX0_frosts_6 : decode cX0_frosts 6 = .ok (.iload_n 3, 1) := dk_29 (dk_at dksX0_frosts_0 6 rfl rfl)
theorem dX0_frosts_7 : decode cX0_frosts 7 = .ok (.invokevirtual 77, 3) := dk_182 0 77 (dk_at dksX0_frosts_0 7 rfl rfl)
theorem dX0_frosts_10 : decode cX0_frosts 10 = .ok (.i2l, 1) := dk_133 (dk_at dksX0_frosts_0 10 rfl rfl)
theorem dX0_frosts_11 : decode cX0_frosts 11 = .ok (.lastore, 1) := dk_80 (dk_at dksX0_frosts_0 11 rfl rfl)
theorem dX0_frosts_12 : decode cX0_frosts 12 = .ok (.goto 11, 3) := dk_167 0 11 (dk_at dksX0_frosts_0 12 rfl rfl)
theorem dX0_frosts_15 : decode cX0_frosts 15 = .ok (.astore 5, 2) := dk_58 5 (dk_at dksX0_frosts_0 15 rfl rfl)
theorem dX0_frosts_17 : decode cX0_frosts 17 = .ok (.iconst 1, 1) := dk_4 (dk_at dksX0_frosts_0 17 rfl rfl)
theorem dX0_frosts_18 : decode cX0_frosts 18 = .ok (.ireturn, 1) := dk_172 (dk_at dksX0_frosts_0 18 rfl rfl)
theorem dX0_frosts_19 : decode cX0_frosts 19 = .ok (.astore 5, 2) := dk_58 5 (dk_at dksX0_frosts_0 19 rfl rfl)
theorem dX0_frosts_21 : decode cX0_frosts 21 = .ok (.iconst 2, 1) := dk_5 (dk_at dksX0_frosts_0 21 rfl rfl)
theorem dX0_frosts_22 : decode cX0_frosts 22 = .ok (.ireturn, 1) := dk_172 (dk_at dksX0_frosts_0 22 rfl rfl)
theorem dX0_frosts_23 : decode cX0_frosts 23 = .ok (.iconst 0, 1) := dk_3 (dk_at dksX0_frosts_0 23 rfl rfl)
theorem dX0_frosts_24 : decode cX0_frosts 24 = .ok (.ireturn, 1) := dk_172 (dk_at dksX0_frosts_1 0 rfl rfl)
abbrev mX0_frosts : xM := (yX0_frosts, cX0_frosts, 6, some .int, [(0, 12, 15, 18), (0, 12, 19, 13)])
theorem cX0_77 : xCV RX0 77 mX1_frosts 3 := ⟨lw_V q1458 q1459 q1460 q121 q1461, rfl, ⟨by decide +kernel, by decide +kernel, by decide +kernel⟩, Nat.le_of_ble_eq_true rfl⟩
theorem wl_X0_frosts {G : xG} (hg : gR G = fun _ => none) {L : xL} {S : MS} {v : Nat → Int64} {T T1 : xF} {x : Option Nat} {p0 : Int32} {p1 : Int32} {p2 : Int32} {r : Int32} (hn : NN L T) (hx : isO T x 0 = true) (h : c_X1_frosts (gW G (lc L S v)) x p0 p1 p2 T = some (.inl r, T1)) : Ct G mX0_frosts 126 (LWo (lc L S v) T) [va_rf x, .int p0, .int p1, .int p2, .ref (lo_ L)] (.inl (some (.int 0))) (LWo (lc L S (vp_updL v 0 r.toInt64)) T1) := by
  have hd : xdl T T1 := c_X1_frosts_dm x p0 p1 p2 T _ h
  have hn1 := hn.dm hd
  refine Ct.ofch (plainFor_of_name (by decide +kernel)) rfl (xvQ (xvI (xvI (xvI (xvQ (r := some (lo_ L)) xvN))))) (Nat.le_of_ble_eq_true rfl) (show Xr G _ 0 [(0, va_rf x), (1, .int p0), (2, .int p1), (3, .int p2), (4, .ref (lo_ L))] [] _ from ?_)
  refine X.aload dX0_frosts_0 4 rfl ?_
  refine X.iconst (v := 0) dX0_frosts_2 (by decide) ?_
  refine C.aload_n dX0_frosts_3 rfl 0 rfl ?_
  refine X.iload_n dX0_frosts_4 rfl 1 rfl ?_
  refine X.iload_n dX0_frosts_5 rfl 2 rfl ?_
  refine X.iload_n dX0_frosts_6 rfl 3 rfl ?_
  refine C.Vi (As := [.int p0, .int p1, .int p2]) (rest := [.int 0, .ref (lo_ L)]) dX0_frosts_7 (Ct.frame hg (w_X1_frosts h)) cX0_77 (isO_LW hx) rfl rfl (Nat.le_of_ble_eq_true rfl) rfl rfl (xD (Nat.le_of_ble_eq_true rfl)) hd.2 xle.rf ?_
  refine X.i2l dX0_frosts_10 rfl ?_
  refine LR.last dX0_frosts_11 hn1 ?_
  refine X.goto (tgt := 23) dX0_frosts_12 (by decide) ?_
  refine X.iconst (v := 0) dX0_frosts_23 (by decide) ?_
  exact X.iret dX0_frosts_24 rfl rfl rfl
theorem wt_X0_frosts_1 {G : xG} (hg : gR G = fun _ => none) {L : xL} {S : MS} {v : Nat → Int64} {T T1 : xF} {x : Option Nat} {p0 : Int32} {p1 : Int32} {p2 : Int32} {e : Nat} (hn : NN L T) (hx : isO T x 0 = true) (h : c_X1_frosts (gW G (lc L S v)) x p0 p1 p2 T = some (.inr ("java/util/NoSuchElementException", e), T1)) : Ct G mX0_frosts 126 (LWo (lc L S v) T) [va_rf x, .int p0, .int p1, .int p2, .ref (lo_ L)] (.inl (some (.int 1))) (LWo (lc L S v) T1) := by
  have hd : xdl T T1 := c_X1_frosts_dm x p0 p1 p2 T _ h
  refine Ct.ofch (plainFor_of_name (by decide +kernel)) rfl (xvQ (xvI (xvI (xvI (xvQ (r := some (lo_ L)) xvN))))) (Nat.le_of_ble_eq_true rfl) (show Xr G _ 0 [(0, va_rf x), (1, .int p0), (2, .int p1), (3, .int p2), (4, .ref (lo_ L))] [] _ from ?_)
  refine X.aload dX0_frosts_0 4 rfl ?_
  refine X.iconst (v := 0) dX0_frosts_2 (by decide) ?_
  refine C.aload_n dX0_frosts_3 rfl 0 rfl ?_
  refine X.iload_n dX0_frosts_4 rfl 1 rfl ?_
  refine X.iload_n dX0_frosts_5 rfl 2 rfl ?_
  refine X.iload_n dX0_frosts_6 rfl 3 rfl ?_
  refine C.Vt (As := [.int p0, .int p1, .int p2]) (rest := [.int 0, .ref (lo_ L)]) dX0_frosts_7 (Ct.frame hg (w_X1_frosts h)) cX0_77 (isO_LW hx) rfl rfl (Nat.le_of_ble_eq_true rfl) rfl rfl (xD (Nat.le_of_ble_eq_true rfl)) hd.2 xle.rf (Xt.catchL (pre := []) (suf := [⟨0, 12, 19, 13⟩]) (z := ⟨0, 12, 15, 18⟩) rfl (fun _ h => nomatch h) (by decide) (by decide) q1254 q1273 rfl (tgt := 15) rfl ?_)
  refine C.ast (L' := [(5, va_rf (some e)), (0, va_rf x), (1, .int p0), (2, .int p1), (3, .int p2), (4, .ref (lo_ L))]) dX0_frosts_15 (Nat.le_of_ble_eq_true rfl) (xcQ (xcI (xcI (xcI (xcQ (r := some (lo_ L)) xcN))))) rfl ?_
  refine X.iconst (v := 1) dX0_frosts_17 (by decide) ?_
  exact X.iret dX0_frosts_18 rfl rfl rfl
theorem wt_X0_frosts_2 {G : xG} (hg : gR G = fun _ => none) {L : xL} {S : MS} {v : Nat → Int64} {T T1 : xF} {x : Option Nat} {p0 : Int32} {p1 : Int32} {p2 : Int32} {e : Nat} (hn : NN L T) (hx : isO T x 0 = true) (h : c_X1_frosts (gW G (lc L S v)) x p0 p1 p2 T = some (.inr ("java/lang/IllegalArgumentException", e), T1)) : Ct G mX0_frosts 126 (LWo (lc L S v) T) [va_rf x, .int p0, .int p1, .int p2, .ref (lo_ L)] (.inl (some (.int 2))) (LWo (lc L S v) T1) := by
  have hd : xdl T T1 := c_X1_frosts_dm x p0 p1 p2 T _ h
  refine Ct.ofch (plainFor_of_name (by decide +kernel)) rfl (xvQ (xvI (xvI (xvI (xvQ (r := some (lo_ L)) xvN))))) (Nat.le_of_ble_eq_true rfl) (show Xr G _ 0 [(0, va_rf x), (1, .int p0), (2, .int p1), (3, .int p2), (4, .ref (lo_ L))] [] _ from ?_)
  refine X.aload dX0_frosts_0 4 rfl ?_
  refine X.iconst (v := 0) dX0_frosts_2 (by decide) ?_
  refine C.aload_n dX0_frosts_3 rfl 0 rfl ?_
  refine X.iload_n dX0_frosts_4 rfl 1 rfl ?_
  refine X.iload_n dX0_frosts_5 rfl 2 rfl ?_
  refine X.iload_n dX0_frosts_6 rfl 3 rfl ?_
  refine C.Vt (As := [.int p0, .int p1, .int p2]) (rest := [.int 0, .ref (lo_ L)]) dX0_frosts_7 (Ct.frame hg (w_X1_frosts h)) cX0_77 (isO_LW hx) rfl rfl (Nat.le_of_ble_eq_true rfl) rfl rfl (xD (Nat.le_of_ble_eq_true rfl)) hd.2 xle.rf (Xt.catchL (pre := [⟨0, 12, 15, 18⟩]) (suf := []) (z := ⟨0, 12, 19, 13⟩) rfl (fun y hy => by rw [List.mem_singleton.mp hy]; exact ⟨by decide, q1254, rfl⟩) (by decide) (by decide) q733 q744 rfl (tgt := 19) rfl ?_)
  refine C.ast (L' := [(5, va_rf (some e)), (0, va_rf x), (1, .int p0), (2, .int p1), (3, .int p2), (4, .ref (lo_ L))]) dX0_frosts_19 (Nat.le_of_ble_eq_true rfl) (xcQ (xcI (xcI (xcI (xcQ (r := some (lo_ L)) xcN))))) rfl ?_
  refine X.iconst (v := 2) dX0_frosts_21 (by decide) ?_
  exact X.iret dX0_frosts_22 rfl rfl rfl
abbrev cX0_game : ByteArray := method_24_code
def yX0_game : MethodName := ⟨RX0, "game", "(LMouldVotes;III[J)I"⟩
def dkwX0_game_1 : List UInt8 := [172]
abbrev dktX0_game_1 : List UInt8 := dkwX0_game_1 ++ []
def dkwX0_game_0 : List UInt8 := [25, 4, 3, 42, 27, 28, 29, 182, 0, 80, 133, 80, 167, 0, 11, 58, 5, 4, 172, 58, 5, 5, 172, 3]
abbrev dktX0_game_0 : List UInt8 := dkwX0_game_0 ++ dktX0_game_1
theorem dksX0_game_0 : cX0_game.data.toList.drop 0 = dktX0_game_0 := by decide +kernel
theorem dksX0_game_1 : cX0_game.data.toList.drop 24 = dktX0_game_1 := dk_seg dksX0_game_0 24 rfl rfl
theorem dX0_game_0 : decode cX0_game 0 = .ok (.aload 4, 2) := dk_25 4 (dk_at dksX0_game_0 0 rfl rfl)
theorem dX0_game_2 : decode cX0_game 2 = .ok (.iconst 0, 1) := dk_3 (dk_at dksX0_game_0 2 rfl rfl)
theorem dX0_game_3 : decode cX0_game 3 = .ok (.aload_n 0, 1) := dk_42 (dk_at dksX0_game_0 3 rfl rfl)
theorem dX0_game_4 : decode cX0_game 4 = .ok (.iload_n 1, 1) := dk_27 (dk_at dksX0_game_0 4 rfl rfl)
theorem dX0_game_5 : decode cX0_game 5 = .ok (.iload_n 2, 1) := dk_28 (dk_at dksX0_game_0 5 rfl rfl)
theorem dX0_game_6 : decode cX0_game 6 = .ok (.iload_n 3, 1) := dk_29 (dk_at dksX0_game_0 6 rfl rfl)
theorem dX0_game_7 : decode cX0_game 7 = .ok (.invokevirtual 80, 3) := dk_182 0 80 (dk_at dksX0_game_0 7 rfl rfl)
theorem dX0_game_10 : decode cX0_game 10 = .ok (.i2l, 1) := dk_133 (dk_at dksX0_game_0 10 rfl rfl)
theorem dX0_game_11 : decode cX0_game 11 = .ok (.lastore, 1) := dk_80 (dk_at dksX0_game_0 11 rfl rfl)
theorem dX0_game_12 : decode cX0_game 12 = .ok (.goto 11, 3) := dk_167 0 11 (dk_at dksX0_game_0 12 rfl rfl)
theorem dX0_game_15 : decode cX0_game 15 = .ok (.astore 5, 2) := dk_58 5 (dk_at dksX0_game_0 15 rfl rfl)
theorem dX0_game_17 : decode cX0_game 17 = .ok (.iconst 1, 1) := dk_4 (dk_at dksX0_game_0 17 rfl rfl)
theorem dX0_game_18 : decode cX0_game 18 = .ok (.ireturn, 1) := dk_172 (dk_at dksX0_game_0 18 rfl rfl)
theorem dX0_game_19 : decode cX0_game 19 = .ok (.astore 5, 2) := dk_58 5 (dk_at dksX0_game_0 19 rfl rfl)
theorem dX0_game_21 : decode cX0_game 21 = .ok (.iconst 2, 1) := dk_5 (dk_at dksX0_game_0 21 rfl rfl)
theorem dX0_game_22 : decode cX0_game 22 = .ok (.ireturn, 1) := dk_172 (dk_at dksX0_game_0 22 rfl rfl)
theorem dX0_game_23 : decode cX0_game 23 = .ok (.iconst 0, 1) := dk_3 (dk_at dksX0_game_0 23 rfl rfl)
theorem dX0_game_24 : decode cX0_game 24 = .ok (.ireturn, 1) := dk_172 (dk_at dksX0_game_1 0 rfl rfl)
abbrev mX0_game : xM := (yX0_game, cX0_game, 6, some .int, [(0, 12, 15, 18), (0, 12, 19, 13)])
theorem cX0_80 : xCV RX0 80 mX1_game 3 := ⟨lw_V q1465 q1466 q1467 q121 q1468, rfl, ⟨by decide +kernel, by decide +kernel, by decide +kernel⟩, Nat.le_of_ble_eq_true rfl⟩
theorem wl_X0_game {G : xG} (hg : gR G = fun _ => none) {L : xL} {S : MS} {v : Nat → Int64} {T T1 : xF} {x : Option Nat} {p0 : Int32} {p1 : Int32} {p2 : Int32} {r : Int32} (hn : NN L T) (hx : isO T x 0 = true) (h : c_X1_game (gW G (lc L S v)) x p0 p1 p2 T = some (.inl r, T1)) : Ct G mX0_game 128 (LWo (lc L S v) T) [va_rf x, .int p0, .int p1, .int p2, .ref (lo_ L)] (.inl (some (.int 0))) (LWo (lc L S (vp_updL v 0 r.toInt64)) T1) := by
  have hd : xdl T T1 := c_X1_game_dm x p0 p1 p2 T _ h
  have hn1 := hn.dm hd
  refine Ct.ofch (plainFor_of_name (by decide +kernel)) rfl (xvQ (xvI (xvI (xvI (xvQ (r := some (lo_ L)) xvN))))) (Nat.le_of_ble_eq_true rfl) (show Xr G _ 0 [(0, va_rf x), (1, .int p0), (2, .int p1), (3, .int p2), (4, .ref (lo_ L))] [] _ from ?_)
  refine X.aload dX0_game_0 4 rfl ?_
  refine X.iconst (v := 0) dX0_game_2 (by decide) ?_
  refine C.aload_n dX0_game_3 rfl 0 rfl ?_
  refine X.iload_n dX0_game_4 rfl 1 rfl ?_
  refine X.iload_n dX0_game_5 rfl 2 rfl ?_
  refine X.iload_n dX0_game_6 rfl 3 rfl ?_
  refine C.Vi (As := [.int p0, .int p1, .int p2]) (rest := [.int 0, .ref (lo_ L)]) dX0_game_7 (Ct.frame hg (w_X1_game h)) cX0_80 (isO_LW hx) rfl rfl (Nat.le_of_ble_eq_true rfl) rfl rfl (xD (Nat.le_of_ble_eq_true rfl)) hd.2 xle.rf ?_
  refine X.i2l dX0_game_10 rfl ?_
  refine LR.last dX0_game_11 hn1 ?_
  refine X.goto (tgt := 23) dX0_game_12 (by decide) ?_
  refine X.iconst (v := 0) dX0_game_23 (by decide) ?_
  exact X.iret dX0_game_24 rfl rfl rfl
theorem wt_X0_game_1 {G : xG} (hg : gR G = fun _ => none) {L : xL} {S : MS} {v : Nat → Int64} {T T1 : xF} {x : Option Nat} {p0 : Int32} {p1 : Int32} {p2 : Int32} {e : Nat} (hn : NN L T) (hx : isO T x 0 = true) (h : c_X1_game (gW G (lc L S v)) x p0 p1 p2 T = some (.inr ("java/util/NoSuchElementException", e), T1)) : Ct G mX0_game 128 (LWo (lc L S v) T) [va_rf x, .int p0, .int p1, .int p2, .ref (lo_ L)] (.inl (some (.int 1))) (LWo (lc L S v) T1) := by
  have hd : xdl T T1 := c_X1_game_dm x p0 p1 p2 T _ h
  refine Ct.ofch (plainFor_of_name (by decide +kernel)) rfl (xvQ (xvI (xvI (xvI (xvQ (r := some (lo_ L)) xvN))))) (Nat.le_of_ble_eq_true rfl) (show Xr G _ 0 [(0, va_rf x), (1, .int p0), (2, .int p1), (3, .int p2), (4, .ref (lo_ L))] [] _ from ?_)
  refine X.aload dX0_game_0 4 rfl ?_
  refine X.iconst (v := 0) dX0_game_2 (by decide) ?_
  refine C.aload_n dX0_game_3 rfl 0 rfl ?_
  refine X.iload_n dX0_game_4 rfl 1 rfl ?_
  refine X.iload_n dX0_game_5 rfl 2 rfl ?_
  refine X.iload_n dX0_game_6 rfl 3 rfl ?_
  refine C.Vt (As := [.int p0, .int p1, .int p2]) (rest := [.int 0, .ref (lo_ L)]) dX0_game_7 (Ct.frame hg (w_X1_game h)) cX0_80 (isO_LW hx) rfl rfl (Nat.le_of_ble_eq_true rfl) rfl rfl (xD (Nat.le_of_ble_eq_true rfl)) hd.2 xle.rf (Xt.catchL (pre := []) (suf := [⟨0, 12, 19, 13⟩]) (z := ⟨0, 12, 15, 18⟩) rfl (fun _ h => nomatch h) (by decide) (by decide) q1254 q1273 rfl (tgt := 15) rfl ?_)
  refine C.ast (L' := [(5, va_rf (some e)), (0, va_rf x), (1, .int p0), (2, .int p1), (3, .int p2), (4, .ref (lo_ L))]) dX0_game_15 (Nat.le_of_ble_eq_true rfl) (xcQ (xcI (xcI (xcI (xcQ (r := some (lo_ L)) xcN))))) rfl ?_
  refine X.iconst (v := 1) dX0_game_17 (by decide) ?_
  exact X.iret dX0_game_18 rfl rfl rfl
theorem wt_X0_game_2 {G : xG} (hg : gR G = fun _ => none) {L : xL} {S : MS} {v : Nat → Int64} {T T1 : xF} {x : Option Nat} {p0 : Int32} {p1 : Int32} {p2 : Int32} {e : Nat} (hn : NN L T) (hx : isO T x 0 = true) (h : c_X1_game (gW G (lc L S v)) x p0 p1 p2 T = some (.inr ("java/lang/IllegalArgumentException", e), T1)) : Ct G mX0_game 128 (LWo (lc L S v) T) [va_rf x, .int p0, .int p1, .int p2, .ref (lo_ L)] (.inl (some (.int 2))) (LWo (lc L S v) T1) := by
  have hd : xdl T T1 := c_X1_game_dm x p0 p1 p2 T _ h
  refine Ct.ofch (plainFor_of_name (by decide +kernel)) rfl (xvQ (xvI (xvI (xvI (xvQ (r := some (lo_ L)) xvN))))) (Nat.le_of_ble_eq_true rfl) (show Xr G _ 0 [(0, va_rf x), (1, .int p0), (2, .int p1), (3, .int p2), (4, .ref (lo_ L))] [] _ from ?_)
  refine X.aload dX0_game_0 4 rfl ?_
  refine X.iconst (v := 0) dX0_game_2 (by decide) ?_
  refine C.aload_n dX0_game_3 rfl 0 rfl ?_
  refine X.iload_n dX0_game_4 rfl 1 rfl ?_
  refine X.iload_n dX0_game_5 rfl 2 rfl ?_
  refine X.iload_n dX0_game_6 rfl 3 rfl ?_
  refine C.Vt (As := [.int p0, .int p1, .int p2]) (rest := [.int 0, .ref (lo_ L)]) dX0_game_7 (Ct.frame hg (w_X1_game h)) cX0_80 (isO_LW hx) rfl rfl (Nat.le_of_ble_eq_true rfl) rfl rfl (xD (Nat.le_of_ble_eq_true rfl)) hd.2 xle.rf (Xt.catchL (pre := [⟨0, 12, 15, 18⟩]) (suf := []) (z := ⟨0, 12, 19, 13⟩) rfl (fun y hy => by rw [List.mem_singleton.mp hy]; exact ⟨by decide, q1254, rfl⟩) (by decide) (by decide) q733 q744 rfl (tgt := 19) rfl ?_)
  refine C.ast (L' := [(5, va_rf (some e)), (0, va_rf x), (1, .int p0), (2, .int p1), (3, .int p2), (4, .ref (lo_ L))]) dX0_game_19 (Nat.le_of_ble_eq_true rfl) (xcQ (xcI (xcI (xcI (xcQ (r := some (lo_ L)) xcN))))) rfl ?_
  refine X.iconst (v := 2) dX0_game_21 (by decide) ?_
  exact X.iret dX0_game_22 rfl rfl rfl
abbrev cX0_greatest : ByteArray := method_31_code
def yX0_greatest : MethodName := ⟨RX0, "greatest", "(LMouldVotes;II[J)I"⟩
def dkwX0_greatest_0 : List UInt8 := [45, 3, 42, 27, 28, 182, 0, 101, 133, 80, 167, 0, 7, 58, 4, 4, 172, 3, 172]
abbrev dktX0_greatest_0 : List UInt8 := dkwX0_greatest_0 ++ []
theorem dksX0_greatest_0 : cX0_greatest.data.toList.drop 0 = dktX0_greatest_0 := by decide +kernel
theorem dX0_greatest_0 : decode cX0_greatest 0 = .ok (.aload_n 3, 1) := dk_45 (dk_at dksX0_greatest_0 0 rfl rfl)
theorem dX0_greatest_1 : decode cX0_greatest 1 = .ok (.iconst 0, 1) := dk_3 (dk_at dksX0_greatest_0 1 rfl rfl)
theorem dX0_greatest_2 : decode cX0_greatest 2 = .ok (.aload_n 0, 1) := dk_42 (dk_at dksX0_greatest_0 2 rfl rfl)
theorem dX0_greatest_3 : decode cX0_greatest 3 = .ok (.iload_n 1, 1) := dk_27 (dk_at dksX0_greatest_0 3 rfl rfl)
theorem dX0_greatest_4 : decode cX0_greatest 4 = .ok (.iload_n 2, 1) := dk_28 (dk_at dksX0_greatest_0 4 rfl rfl)
theorem dX0_greatest_5 : decode cX0_greatest 5 = .ok (.invokevirtual 101, 3) := dk_182 0 101 (dk_at dksX0_greatest_0 5 rfl rfl)
theorem dX0_greatest_8 : decode cX0_greatest 8 = .ok (.i2l, 1) := dk_133 (dk_at dksX0_greatest_0 8 rfl rfl)
theorem dX0_greatest_9 : decode cX0_greatest 9 = .ok (.lastore, 1) := dk_80 (dk_at dksX0_greatest_0 9 rfl rfl)
theorem dX0_greatest_10 : decode cX0_greatest 10 = .ok (.goto 7, 3) := dk_167 0 7 (dk_at dksX0_greatest_0 10 rfl rfl)
theorem dX0_greatest_13 : decode cX0_greatest 13 = .ok (.astore 4, 2) := dk_58 4 (dk_at dksX0_greatest_0 13 rfl rfl)
theorem dX0_greatest_15 : decode cX0_greatest 15 = .ok (.iconst 1, 1) := dk_4 (dk_at dksX0_greatest_0 15 rfl rfl)
theorem dX0_greatest_16 : decode cX0_greatest 16 = .ok (.ireturn, 1) := dk_172 (dk_at dksX0_greatest_0 16 rfl rfl)
theorem dX0_greatest_17 : decode cX0_greatest 17 = .ok (.iconst 0, 1) := dk_3 (dk_at dksX0_greatest_0 17 rfl rfl)
theorem dX0_greatest_18 : decode cX0_greatest 18 = .ok (.ireturn, 1) := dk_172 (dk_at dksX0_greatest_0 18 rfl rfl)
abbrev mX0_greatest : xM := (yX0_greatest, cX0_greatest, 5, some .int, [(0, 10, 13, 18)])
theorem cX0_101 : xCV RX0 101 mX1_greatest 2 := ⟨lw_V q1535 q1536 q1537 q121 q1538, rfl, ⟨by decide +kernel, by decide +kernel, by decide +kernel⟩, Nat.le_of_ble_eq_true rfl⟩
theorem wl_X0_greatest {G : xG} (hg : gR G = fun _ => none) {L : xL} {S : MS} {v : Nat → Int64} {T T1 : xF} {x : Option Nat} {p0 : Int32} {p1 : Int32} {r : Int32} (hn : NN L T) (hx : isO T x 0 = true) (h : c_X1_greatest x p0 p1 T = some (.inl r, T1)) : Ct G mX0_greatest 62 (LWo (lc L S v) T) [va_rf x, .int p0, .int p1, .ref (lo_ L)] (.inl (some (.int 0))) (LWo (lc L S (vp_updL v 0 r.toInt64)) T1) := by
  have hd : xdl T T1 := c_X1_greatest_dm x p0 p1 T _ h
  have hn1 := hn.dm hd
  refine Ct.ofch (plainFor_of_name (by decide +kernel)) rfl (xvQ (xvI (xvI (xvQ (r := some (lo_ L)) xvN)))) (Nat.le_of_ble_eq_true rfl) (show Xr G _ 0 [(0, va_rf x), (1, .int p0), (2, .int p1), (3, .ref (lo_ L))] [] _ from ?_)
  refine X.aload_n dX0_greatest_0 rfl 3 rfl ?_
  refine X.iconst (v := 0) dX0_greatest_1 (by decide) ?_
  refine C.aload_n dX0_greatest_2 rfl 0 rfl ?_
  refine X.iload_n dX0_greatest_3 rfl 1 rfl ?_
  refine X.iload_n dX0_greatest_4 rfl 2 rfl ?_
  refine C.Vi (As := [.int p0, .int p1]) (rest := [.int 0, .ref (lo_ L)]) dX0_greatest_5 (Ct.frame hg (w_X1_greatest h)) cX0_101 (isO_LW hx) rfl rfl (Nat.le_of_ble_eq_true rfl) rfl rfl (xD (Nat.le_of_ble_eq_true rfl)) hd.2 xle.rf ?_
  refine X.i2l dX0_greatest_8 rfl ?_
  refine LR.last dX0_greatest_9 hn1 ?_
  refine X.goto (tgt := 17) dX0_greatest_10 (by decide) ?_
  refine X.iconst (v := 0) dX0_greatest_17 (by decide) ?_
  exact X.iret dX0_greatest_18 rfl rfl rfl
theorem wt_X0_greatest_1 {G : xG} (hg : gR G = fun _ => none) {L : xL} {S : MS} {v : Nat → Int64} {T T1 : xF} {x : Option Nat} {p0 : Int32} {p1 : Int32} {e : Nat} (hn : NN L T) (hx : isO T x 0 = true) (h : c_X1_greatest x p0 p1 T = some (.inr ("java/util/NoSuchElementException", e), T1)) : Ct G mX0_greatest 62 (LWo (lc L S v) T) [va_rf x, .int p0, .int p1, .ref (lo_ L)] (.inl (some (.int 1))) (LWo (lc L S v) T1) := by
  have hd : xdl T T1 := c_X1_greatest_dm x p0 p1 T _ h
  refine Ct.ofch (plainFor_of_name (by decide +kernel)) rfl (xvQ (xvI (xvI (xvQ (r := some (lo_ L)) xvN)))) (Nat.le_of_ble_eq_true rfl) (show Xr G _ 0 [(0, va_rf x), (1, .int p0), (2, .int p1), (3, .ref (lo_ L))] [] _ from ?_)
  refine X.aload_n dX0_greatest_0 rfl 3 rfl ?_
  refine X.iconst (v := 0) dX0_greatest_1 (by decide) ?_
  refine C.aload_n dX0_greatest_2 rfl 0 rfl ?_
  refine X.iload_n dX0_greatest_3 rfl 1 rfl ?_
  refine X.iload_n dX0_greatest_4 rfl 2 rfl ?_
  refine C.Vt (As := [.int p0, .int p1]) (rest := [.int 0, .ref (lo_ L)]) dX0_greatest_5 (Ct.frame hg (w_X1_greatest h)) cX0_101 (isO_LW hx) rfl rfl (Nat.le_of_ble_eq_true rfl) rfl rfl (xD (Nat.le_of_ble_eq_true rfl)) hd.2 xle.rf (Xt.catchL (pre := []) (suf := []) (z := ⟨0, 10, 13, 18⟩) rfl (fun _ h => nomatch h) (by decide) (by decide) q1254 q1273 rfl (tgt := 13) rfl ?_)
  refine C.ast (L' := [(4, va_rf (some e)), (0, va_rf x), (1, .int p0), (2, .int p1), (3, .ref (lo_ L))]) dX0_greatest_13 (Nat.le_of_ble_eq_true rfl) (xcQ (xcI (xcI (xcQ (r := some (lo_ L)) xcN)))) rfl ?_
  refine X.iconst (v := 1) dX0_greatest_15 (by decide) ?_
  exact X.iret dX0_greatest_16 rfl rfl rfl
abbrev cX0_harm : ByteArray := method_33_code
def yX0_harm : MethodName := ⟨RX0, "harm", "(LMouldVotes;II[J)I"⟩
def dkwX0_harm_0 : List UInt8 := [45, 3, 42, 27, 28, 182, 0, 107, 133, 80, 167, 0, 11, 58, 4, 4, 172, 58, 4, 5, 172, 3, 172]
abbrev dktX0_harm_0 : List UInt8 := dkwX0_harm_0 ++ []
theorem dksX0_harm_0 : cX0_harm.data.toList.drop 0 = dktX0_harm_0 := by decide +kernel
theorem dX0_harm_0 : decode cX0_harm 0 = .ok (.aload_n 3, 1) := dk_45 (dk_at dksX0_harm_0 0 rfl rfl)
theorem dX0_harm_1 : decode cX0_harm 1 = .ok (.iconst 0, 1) := dk_3 (dk_at dksX0_harm_0 1 rfl rfl)
theorem dX0_harm_2 : decode cX0_harm 2 = .ok (.aload_n 0, 1) := dk_42 (dk_at dksX0_harm_0 2 rfl rfl)
theorem dX0_harm_3 : decode cX0_harm 3 = .ok (.iload_n 1, 1) := dk_27 (dk_at dksX0_harm_0 3 rfl rfl)
theorem dX0_harm_4 : decode cX0_harm 4 = .ok (.iload_n 2, 1) := dk_28 (dk_at dksX0_harm_0 4 rfl rfl)
theorem dX0_harm_5 : decode cX0_harm 5 = .ok (.invokevirtual 107, 3) := dk_182 0 107 (dk_at dksX0_harm_0 5 rfl rfl)
theorem dX0_harm_8 : decode cX0_harm 8 = .ok (.i2l, 1) := dk_133 (dk_at dksX0_harm_0 8 rfl rfl)
theorem dX0_harm_9 : decode cX0_harm 9 = .ok (.lastore, 1) := dk_80 (dk_at dksX0_harm_0 9 rfl rfl)
theorem dX0_harm_10 : decode cX0_harm 10 = .ok (.goto 11, 3) := dk_167 0 11 (dk_at dksX0_harm_0 10 rfl rfl)
theorem dX0_harm_13 : decode cX0_harm 13 = .ok (.astore 4, 2) := dk_58 4 (dk_at dksX0_harm_0 13 rfl rfl)
theorem dX0_harm_15 : decode cX0_harm 15 = .ok (.iconst 1, 1) := dk_4 (dk_at dksX0_harm_0 15 rfl rfl)
theorem dX0_harm_16 : decode cX0_harm 16 = .ok (.ireturn, 1) := dk_172 (dk_at dksX0_harm_0 16 rfl rfl)
theorem dX0_harm_17 : decode cX0_harm 17 = .ok (.astore 4, 2) := dk_58 4 (dk_at dksX0_harm_0 17 rfl rfl)
theorem dX0_harm_19 : decode cX0_harm 19 = .ok (.iconst 2, 1) := dk_5 (dk_at dksX0_harm_0 19 rfl rfl)
theorem dX0_harm_20 : decode cX0_harm 20 = .ok (.ireturn, 1) := dk_172 (dk_at dksX0_harm_0 20 rfl rfl)
theorem dX0_harm_21 : decode cX0_harm 21 = .ok (.iconst 0, 1) := dk_3 (dk_at dksX0_harm_0 21 rfl rfl)
theorem dX0_harm_22 : decode cX0_harm 22 = .ok (.ireturn, 1) := dk_172 (dk_at dksX0_harm_0 22 rfl rfl)
abbrev mX0_harm : xM := (yX0_harm, cX0_harm, 5, some .int, [(0, 10, 13, 18), (0, 10, 17, 13)])
theorem cX0_107 : xCV RX0 107 mX1_harm 2 := ⟨lw_V q1549 q1550 q1551 q121 q1552, rfl, ⟨by decide +kernel, by decide +kernel, by decide +kernel⟩, Nat.le_of_ble_eq_true rfl⟩
theorem wl_X0_harm {G : xG} (hg : gR G = fun _ => none) {L : xL} {S : MS} {v : Nat → Int64} {T T1 : xF} {x : Option Nat} {p0 : Int32} {p1 : Int32} {r : Int32} (hn : NN L T) (hx : isO T x 0 = true) (h : c_X1_harm (gW G (lc L S v)) x p0 p1 T = some (.inl r, T1)) : Ct G mX0_harm 128 (LWo (lc L S v) T) [va_rf x, .int p0, .int p1, .ref (lo_ L)] (.inl (some (.int 0))) (LWo (lc L S (vp_updL v 0 r.toInt64)) T1) := by
  have hd : xdl T T1 := c_X1_harm_dm x p0 p1 T _ h
  have hn1 := hn.dm hd
  refine Ct.ofch (plainFor_of_name (by decide +kernel)) rfl (xvQ (xvI (xvI (xvQ (r := some (lo_ L)) xvN)))) (Nat.le_of_ble_eq_true rfl) (show Xr G _ 0 [(0, va_rf x), (1, .int p0), (2, .int p1), (3, .ref (lo_ L))] [] _ from ?_)
  refine X.aload_n dX0_harm_0 rfl 3 rfl ?_
  refine X.iconst (v := 0) dX0_harm_1 (by decide) ?_
  refine C.aload_n dX0_harm_2 rfl 0 rfl ?_
  refine X.iload_n dX0_harm_3 rfl 1 rfl ?_
  refine X.iload_n dX0_harm_4 rfl 2 rfl ?_
  refine C.Vi (As := [.int p0, .int p1]) (rest := [.int 0, .ref (lo_ L)]) dX0_harm_5 (Ct.frame hg (w_X1_harm h)) cX0_107 (isO_LW hx) rfl rfl (Nat.le_of_ble_eq_true rfl) rfl rfl (xD (Nat.le_of_ble_eq_true rfl)) hd.2 xle.rf ?_
  refine X.i2l dX0_harm_8 rfl ?_
  refine LR.last dX0_harm_9 hn1 ?_
  refine X.goto (tgt := 21) dX0_harm_10 (by decide) ?_
  refine X.iconst (v := 0) dX0_harm_21 (by decide) ?_
  exact X.iret dX0_harm_22 rfl rfl rfl
theorem wt_X0_harm_1 {G : xG} (hg : gR G = fun _ => none) {L : xL} {S : MS} {v : Nat → Int64} {T T1 : xF} {x : Option Nat} {p0 : Int32} {p1 : Int32} {e : Nat} (hn : NN L T) (hx : isO T x 0 = true) (h : c_X1_harm (gW G (lc L S v)) x p0 p1 T = some (.inr ("java/util/NoSuchElementException", e), T1)) : Ct G mX0_harm 128 (LWo (lc L S v) T) [va_rf x, .int p0, .int p1, .ref (lo_ L)] (.inl (some (.int 1))) (LWo (lc L S v) T1) := by
  have hd : xdl T T1 := c_X1_harm_dm x p0 p1 T _ h
  refine Ct.ofch (plainFor_of_name (by decide +kernel)) rfl (xvQ (xvI (xvI (xvQ (r := some (lo_ L)) xvN)))) (Nat.le_of_ble_eq_true rfl) (show Xr G _ 0 [(0, va_rf x), (1, .int p0), (2, .int p1), (3, .ref (lo_ L))] [] _ from ?_)
  refine X.aload_n dX0_harm_0 rfl 3 rfl ?_
  refine X.iconst (v := 0) dX0_harm_1 (by decide) ?_
  refine C.aload_n dX0_harm_2 rfl 0 rfl ?_
  refine X.iload_n dX0_harm_3 rfl 1 rfl ?_
  refine X.iload_n dX0_harm_4 rfl 2 rfl ?_
  refine C.Vt (As := [.int p0, .int p1]) (rest := [.int 0, .ref (lo_ L)]) dX0_harm_5 (Ct.frame hg (w_X1_harm h)) cX0_107 (isO_LW hx) rfl rfl (Nat.le_of_ble_eq_true rfl) rfl rfl (xD (Nat.le_of_ble_eq_true rfl)) hd.2 xle.rf (Xt.catchL (pre := []) (suf := [⟨0, 10, 17, 13⟩]) (z := ⟨0, 10, 13, 18⟩) rfl (fun _ h => nomatch h) (by decide) (by decide) q1254 q1273 rfl (tgt := 13) rfl ?_)
  refine C.ast (L' := [(4, va_rf (some e)), (0, va_rf x), (1, .int p0), (2, .int p1), (3, .ref (lo_ L))]) dX0_harm_13 (Nat.le_of_ble_eq_true rfl) (xcQ (xcI (xcI (xcQ (r := some (lo_ L)) xcN)))) rfl ?_
  refine X.iconst (v := 1) dX0_harm_15 (by decide) ?_
  exact X.iret dX0_harm_16 rfl rfl rfl
theorem wt_X0_harm_2 {G : xG} (hg : gR G = fun _ => none) {L : xL} {S : MS} {v : Nat → Int64} {T T1 : xF} {x : Option Nat} {p0 : Int32} {p1 : Int32} {e : Nat} (hn : NN L T) (hx : isO T x 0 = true) (h : c_X1_harm (gW G (lc L S v)) x p0 p1 T = some (.inr ("java/lang/IllegalArgumentException", e), T1)) : Ct G mX0_harm 128 (LWo (lc L S v) T) [va_rf x, .int p0, .int p1, .ref (lo_ L)] (.inl (some (.int 2))) (LWo (lc L S v) T1) := by
  have hd : xdl T T1 := c_X1_harm_dm x p0 p1 T _ h
  refine Ct.ofch (plainFor_of_name (by decide +kernel)) rfl (xvQ (xvI (xvI (xvQ (r := some (lo_ L)) xvN)))) (Nat.le_of_ble_eq_true rfl) (show Xr G _ 0 [(0, va_rf x), (1, .int p0), (2, .int p1), (3, .ref (lo_ L))] [] _ from ?_)
  refine X.aload_n dX0_harm_0 rfl 3 rfl ?_
  refine X.iconst (v := 0) dX0_harm_1 (by decide) ?_
  refine C.aload_n dX0_harm_2 rfl 0 rfl ?_
  refine X.iload_n dX0_harm_3 rfl 1 rfl ?_
  refine X.iload_n dX0_harm_4 rfl 2 rfl ?_
  refine C.Vt (As := [.int p0, .int p1]) (rest := [.int 0, .ref (lo_ L)]) dX0_harm_5 (Ct.frame hg (w_X1_harm h)) cX0_107 (isO_LW hx) rfl rfl (Nat.le_of_ble_eq_true rfl) rfl rfl (xD (Nat.le_of_ble_eq_true rfl)) hd.2 xle.rf (Xt.catchL (pre := [⟨0, 10, 13, 18⟩]) (suf := []) (z := ⟨0, 10, 17, 13⟩) rfl (fun y hy => by rw [List.mem_singleton.mp hy]; exact ⟨by decide, q1254, rfl⟩) (by decide) (by decide) q733 q744 rfl (tgt := 17) rfl ?_)
  refine C.ast (L' := [(4, va_rf (some e)), (0, va_rf x), (1, .int p0), (2, .int p1), (3, .ref (lo_ L))]) dX0_harm_17 (Nat.le_of_ble_eq_true rfl) (xcQ (xcI (xcI (xcQ (r := some (lo_ L)) xcN)))) rfl ?_
  refine X.iconst (v := 2) dX0_harm_19 (by decide) ?_
  exact X.iret dX0_harm_20 rfl rfl rfl
abbrev cX0_keep : ByteArray := method_32_code
def yX0_keep : MethodName := ⟨RX0, "keep", "(LMouldVotes;I[J)I"⟩
def dkwX0_keep_0 : List UInt8 := [44, 3, 42, 27, 182, 0, 104, 133, 80, 167, 0, 6, 78, 4, 172, 3, 172]
abbrev dktX0_keep_0 : List UInt8 := dkwX0_keep_0 ++ []
theorem dksX0_keep_0 : cX0_keep.data.toList.drop 0 = dktX0_keep_0 := by decide +kernel
theorem dX0_keep_0 : decode cX0_keep 0 = .ok (.aload_n 2, 1) := dk_44 (dk_at dksX0_keep_0 0 rfl rfl)
theorem dX0_keep_1 : decode cX0_keep 1 = .ok (.iconst 0, 1) := dk_3 (dk_at dksX0_keep_0 1 rfl rfl)
theorem dX0_keep_2 : decode cX0_keep 2 = .ok (.aload_n 0, 1) := dk_42 (dk_at dksX0_keep_0 2 rfl rfl)
theorem dX0_keep_3 : decode cX0_keep 3 = .ok (.iload_n 1, 1) := dk_27 (dk_at dksX0_keep_0 3 rfl rfl)
theorem dX0_keep_4 : decode cX0_keep 4 = .ok (.invokevirtual 104, 3) := dk_182 0 104 (dk_at dksX0_keep_0 4 rfl rfl)
theorem dX0_keep_7 : decode cX0_keep 7 = .ok (.i2l, 1) := dk_133 (dk_at dksX0_keep_0 7 rfl rfl)
theorem dX0_keep_8 : decode cX0_keep 8 = .ok (.lastore, 1) := dk_80 (dk_at dksX0_keep_0 8 rfl rfl)
theorem dX0_keep_9 : decode cX0_keep 9 = .ok (.goto 6, 3) := dk_167 0 6 (dk_at dksX0_keep_0 9 rfl rfl)
theorem dX0_keep_12 : decode cX0_keep 12 = .ok (.astore_n 3, 1) := dk_78 (dk_at dksX0_keep_0 12 rfl rfl)
theorem dX0_keep_13 : decode cX0_keep 13 = .ok (.iconst 1, 1) := dk_4 (dk_at dksX0_keep_0 13 rfl rfl)
theorem dX0_keep_14 : decode cX0_keep 14 = .ok (.ireturn, 1) := dk_172 (dk_at dksX0_keep_0 14 rfl rfl)
theorem dX0_keep_15 : decode cX0_keep 15 = .ok (.iconst 0, 1) := dk_3 (dk_at dksX0_keep_0 15 rfl rfl)
theorem dX0_keep_16 : decode cX0_keep 16 = .ok (.ireturn, 1) := dk_172 (dk_at dksX0_keep_0 16 rfl rfl)
abbrev mX0_keep : xM := (yX0_keep, cX0_keep, 4, some .int, [(0, 9, 12, 18)])
theorem cX0_104 : xCV RX0 104 mX1_keep 1 := ⟨lw_V q1542 q1543 q1544 q121 q1545, rfl, ⟨by decide +kernel, by decide +kernel, by decide +kernel⟩, Nat.le_of_ble_eq_true rfl⟩
theorem wl_X0_keep {G : xG} (hg : gR G = fun _ => none) {L : xL} {S : MS} {v : Nat → Int64} {T T1 : xF} {x : Option Nat} {p0 : Int32} {r : Int32} (hn : NN L T) (hx : isO T x 0 = true) (h : c_X1_keep (gW G (lc L S v)) x p0 T = some (.inl r, T1)) : Ct G mX0_keep 123 (LWo (lc L S v) T) [va_rf x, .int p0, .ref (lo_ L)] (.inl (some (.int 0))) (LWo (lc L S (vp_updL v 0 r.toInt64)) T1) := by
  have hd : xdl T T1 := c_X1_keep_dm x p0 T _ h
  have hn1 := hn.dm hd
  refine Ct.ofch (plainFor_of_name (by decide +kernel)) rfl (xvQ (xvI (xvQ (r := some (lo_ L)) xvN))) (Nat.le_of_ble_eq_true rfl) (show Xr G _ 0 [(0, va_rf x), (1, .int p0), (2, .ref (lo_ L))] [] _ from ?_)
  refine X.aload_n dX0_keep_0 rfl 2 rfl ?_
  refine X.iconst (v := 0) dX0_keep_1 (by decide) ?_
  refine C.aload_n dX0_keep_2 rfl 0 rfl ?_
  refine X.iload_n dX0_keep_3 rfl 1 rfl ?_
  refine C.Vi (As := [.int p0]) (rest := [.int 0, .ref (lo_ L)]) dX0_keep_4 (Ct.frame hg (w_X1_keep h)) cX0_104 (isO_LW hx) rfl rfl (Nat.le_of_ble_eq_true rfl) rfl rfl (xD (Nat.le_of_ble_eq_true rfl)) hd.2 xle.rf ?_
  refine X.i2l dX0_keep_7 rfl ?_
  refine LR.last dX0_keep_8 hn1 ?_
  refine X.goto (tgt := 15) dX0_keep_9 (by decide) ?_
  refine X.iconst (v := 0) dX0_keep_15 (by decide) ?_
  exact X.iret dX0_keep_16 rfl rfl rfl
theorem wt_X0_keep_1 {G : xG} (hg : gR G = fun _ => none) {L : xL} {S : MS} {v : Nat → Int64} {T T1 : xF} {x : Option Nat} {p0 : Int32} {e : Nat} (hn : NN L T) (hx : isO T x 0 = true) (h : c_X1_keep (gW G (lc L S v)) x p0 T = some (.inr ("java/util/NoSuchElementException", e), T1)) : Ct G mX0_keep 123 (LWo (lc L S v) T) [va_rf x, .int p0, .ref (lo_ L)] (.inl (some (.int 1))) (LWo (lc L S v) T1) := by
  have hd : xdl T T1 := c_X1_keep_dm x p0 T _ h
  refine Ct.ofch (plainFor_of_name (by decide +kernel)) rfl (xvQ (xvI (xvQ (r := some (lo_ L)) xvN))) (Nat.le_of_ble_eq_true rfl) (show Xr G _ 0 [(0, va_rf x), (1, .int p0), (2, .ref (lo_ L))] [] _ from ?_)
  refine X.aload_n dX0_keep_0 rfl 2 rfl ?_
  refine X.iconst (v := 0) dX0_keep_1 (by decide) ?_
  refine C.aload_n dX0_keep_2 rfl 0 rfl ?_
  refine X.iload_n dX0_keep_3 rfl 1 rfl ?_
  refine C.Vt (As := [.int p0]) (rest := [.int 0, .ref (lo_ L)]) dX0_keep_4 (Ct.frame hg (w_X1_keep h)) cX0_104 (isO_LW hx) rfl rfl (Nat.le_of_ble_eq_true rfl) rfl rfl (xD (Nat.le_of_ble_eq_true rfl)) hd.2 xle.rf (Xt.catchL (pre := []) (suf := []) (z := ⟨0, 9, 12, 18⟩) rfl (fun _ h => nomatch h) (by decide) (by decide) q1254 q1273 rfl (tgt := 12) rfl ?_)
  refine C.ast_n (L' := [(3, va_rf (some e)), (0, va_rf x), (1, .int p0), (2, .ref (lo_ L))]) dX0_keep_12 rfl (Nat.le_of_ble_eq_true rfl) (xcQ (xcI (xcQ (r := some (lo_ L)) xcN))) rfl ?_
  refine X.iconst (v := 1) dX0_keep_13 (by decide) ?_
  exact X.iret dX0_keep_14 rfl rfl rfl
abbrev cX0_least : ByteArray := method_16_code
def yX0_least : MethodName := ⟨RX0, "least", "(LMouldVotes;III[J)I"⟩
def dkwX0_least_1 : List UInt8 := [172]
abbrev dktX0_least_1 : List UInt8 := dkwX0_least_1 ++ []
def dkwX0_least_0 : List UInt8 := [25, 4, 3, 42, 27, 28, 29, 182, 0, 56, 133, 80, 167, 0, 11, 58, 5, 4, 172, 58, 5, 5, 172, 3]
abbrev dktX0_least_0 : List UInt8 := dkwX0_least_0 ++ dktX0_least_1
theorem dksX0_least_0 : cX0_least.data.toList.drop 0 = dktX0_least_0 := by decide +kernel
theorem dksX0_least_1 : cX0_least.data.toList.drop 24 = dktX0_least_1 := dk_seg dksX0_least_0 24 rfl rfl
theorem dX0_least_0 : decode cX0_least 0 = .ok (.aload 4, 2) := dk_25 4 (dk_at dksX0_least_0 0 rfl rfl)
theorem dX0_least_2 : decode cX0_least 2 = .ok (.iconst 0, 1) := dk_3 (dk_at dksX0_least_0 2 rfl rfl)
theorem dX0_least_3 : decode cX0_least 3 = .ok (.aload_n 0, 1) := dk_42 (dk_at dksX0_least_0 3 rfl rfl)
theorem dX0_least_4 : decode cX0_least 4 = .ok (.iload_n 1, 1) := dk_27 (dk_at dksX0_least_0 4 rfl rfl)
theorem dX0_least_5 : decode cX0_least 5 = .ok (.iload_n 2, 1) := dk_28 (dk_at dksX0_least_0 5 rfl rfl)
theorem dX0_least_6 : decode cX0_least 6 = .ok (.iload_n 3, 1) := dk_29 (dk_at dksX0_least_0 6 rfl rfl)
theorem dX0_least_7 : decode cX0_least 7 = .ok (.invokevirtual 56, 3) := dk_182 0 56 (dk_at dksX0_least_0 7 rfl rfl)
theorem dX0_least_10 : decode cX0_least 10 = .ok (.i2l, 1) := dk_133 (dk_at dksX0_least_0 10 rfl rfl)
theorem dX0_least_11 : decode cX0_least 11 = .ok (.lastore, 1) := dk_80 (dk_at dksX0_least_0 11 rfl rfl)
theorem dX0_least_12 : decode cX0_least 12 = .ok (.goto 11, 3) := dk_167 0 11 (dk_at dksX0_least_0 12 rfl rfl)
theorem dX0_least_15 : decode cX0_least 15 = .ok (.astore 5, 2) := dk_58 5 (dk_at dksX0_least_0 15 rfl rfl)
theorem dX0_least_17 : decode cX0_least 17 = .ok (.iconst 1, 1) := dk_4 (dk_at dksX0_least_0 17 rfl rfl)
theorem dX0_least_18 : decode cX0_least 18 = .ok (.ireturn, 1) := dk_172 (dk_at dksX0_least_0 18 rfl rfl)
theorem dX0_least_19 : decode cX0_least 19 = .ok (.astore 5, 2) := dk_58 5 (dk_at dksX0_least_0 19 rfl rfl)
theorem dX0_least_21 : decode cX0_least 21 = .ok (.iconst 2, 1) := dk_5 (dk_at dksX0_least_0 21 rfl rfl)
theorem dX0_least_22 : decode cX0_least 22 = .ok (.ireturn, 1) := dk_172 (dk_at dksX0_least_0 22 rfl rfl)
theorem dX0_least_23 : decode cX0_least 23 = .ok (.iconst 0, 1) := dk_3 (dk_at dksX0_least_0 23 rfl rfl)
theorem dX0_least_24 : decode cX0_least 24 = .ok (.ireturn, 1) := dk_172 (dk_at dksX0_least_1 0 rfl rfl)
abbrev mX0_least : xM := (yX0_least, cX0_least, 6, some .int, [(0, 12, 15, 18), (0, 12, 19, 13)])
theorem cX0_56 : xCV RX0 56 mX1_least 3 := ⟨lw_V q1391 q1392 q1393 q121 q1394, rfl, ⟨by decide +kernel, by decide +kernel, by decide +kernel⟩, Nat.le_of_ble_eq_true rfl⟩
theorem wl_X0_least {G : xG} (hg : gR G = fun _ => none) {L : xL} {S : MS} {v : Nat → Int64} {T T1 : xF} {x : Option Nat} {p0 : Int32} {p1 : Int32} {p2 : Int32} {r : Int32} (hn : NN L T) (hx : isO T x 0 = true) (h : c_X1_least (gW G (lc L S v)) x p0 p1 p2 T = some (.inl r, T1)) : Ct G mX0_least 127 (LWo (lc L S v) T) [va_rf x, .int p0, .int p1, .int p2, .ref (lo_ L)] (.inl (some (.int 0))) (LWo (lc L S (vp_updL v 0 r.toInt64)) T1) := by
  have hd : xdl T T1 := c_X1_least_dm x p0 p1 p2 T _ h
  have hn1 := hn.dm hd
  refine Ct.ofch (plainFor_of_name (by decide +kernel)) rfl (xvQ (xvI (xvI (xvI (xvQ (r := some (lo_ L)) xvN))))) (Nat.le_of_ble_eq_true rfl) (show Xr G _ 0 [(0, va_rf x), (1, .int p0), (2, .int p1), (3, .int p2), (4, .ref (lo_ L))] [] _ from ?_)
  refine X.aload dX0_least_0 4 rfl ?_
  refine X.iconst (v := 0) dX0_least_2 (by decide) ?_
  refine C.aload_n dX0_least_3 rfl 0 rfl ?_
  refine X.iload_n dX0_least_4 rfl 1 rfl ?_
  refine X.iload_n dX0_least_5 rfl 2 rfl ?_
  refine X.iload_n dX0_least_6 rfl 3 rfl ?_
  refine C.Vi (As := [.int p0, .int p1, .int p2]) (rest := [.int 0, .ref (lo_ L)]) dX0_least_7 (Ct.frame hg (w_X1_least h)) cX0_56 (isO_LW hx) rfl rfl (Nat.le_of_ble_eq_true rfl) rfl rfl (xD (Nat.le_of_ble_eq_true rfl)) hd.2 xle.rf ?_
  refine X.i2l dX0_least_10 rfl ?_
  refine LR.last dX0_least_11 hn1 ?_
  refine X.goto (tgt := 23) dX0_least_12 (by decide) ?_
  refine X.iconst (v := 0) dX0_least_23 (by decide) ?_
  exact X.iret dX0_least_24 rfl rfl rfl
theorem wt_X0_least_1 {G : xG} (hg : gR G = fun _ => none) {L : xL} {S : MS} {v : Nat → Int64} {T T1 : xF} {x : Option Nat} {p0 : Int32} {p1 : Int32} {p2 : Int32} {e : Nat} (hn : NN L T) (hx : isO T x 0 = true) (h : c_X1_least (gW G (lc L S v)) x p0 p1 p2 T = some (.inr ("java/util/NoSuchElementException", e), T1)) : Ct G mX0_least 127 (LWo (lc L S v) T) [va_rf x, .int p0, .int p1, .int p2, .ref (lo_ L)] (.inl (some (.int 1))) (LWo (lc L S v) T1) := by
  have hd : xdl T T1 := c_X1_least_dm x p0 p1 p2 T _ h
  refine Ct.ofch (plainFor_of_name (by decide +kernel)) rfl (xvQ (xvI (xvI (xvI (xvQ (r := some (lo_ L)) xvN))))) (Nat.le_of_ble_eq_true rfl) (show Xr G _ 0 [(0, va_rf x), (1, .int p0), (2, .int p1), (3, .int p2), (4, .ref (lo_ L))] [] _ from ?_)
  refine X.aload dX0_least_0 4 rfl ?_
  refine X.iconst (v := 0) dX0_least_2 (by decide) ?_
  refine C.aload_n dX0_least_3 rfl 0 rfl ?_
  refine X.iload_n dX0_least_4 rfl 1 rfl ?_
  refine X.iload_n dX0_least_5 rfl 2 rfl ?_
  refine X.iload_n dX0_least_6 rfl 3 rfl ?_
  refine C.Vt (As := [.int p0, .int p1, .int p2]) (rest := [.int 0, .ref (lo_ L)]) dX0_least_7 (Ct.frame hg (w_X1_least h)) cX0_56 (isO_LW hx) rfl rfl (Nat.le_of_ble_eq_true rfl) rfl rfl (xD (Nat.le_of_ble_eq_true rfl)) hd.2 xle.rf (Xt.catchL (pre := []) (suf := [⟨0, 12, 19, 13⟩]) (z := ⟨0, 12, 15, 18⟩) rfl (fun _ h => nomatch h) (by decide) (by decide) q1254 q1273 rfl (tgt := 15) rfl ?_)
  refine C.ast (L' := [(5, va_rf (some e)), (0, va_rf x), (1, .int p0), (2, .int p1), (3, .int p2), (4, .ref (lo_ L))]) dX0_least_15 (Nat.le_of_ble_eq_true rfl) (xcQ (xcI (xcI (xcI (xcQ (r := some (lo_ L)) xcN))))) rfl ?_
  refine X.iconst (v := 1) dX0_least_17 (by decide) ?_
  exact X.iret dX0_least_18 rfl rfl rfl
theorem wt_X0_least_2 {G : xG} (hg : gR G = fun _ => none) {L : xL} {S : MS} {v : Nat → Int64} {T T1 : xF} {x : Option Nat} {p0 : Int32} {p1 : Int32} {p2 : Int32} {e : Nat} (hn : NN L T) (hx : isO T x 0 = true) (h : c_X1_least (gW G (lc L S v)) x p0 p1 p2 T = some (.inr ("java/lang/IllegalArgumentException", e), T1)) : Ct G mX0_least 127 (LWo (lc L S v) T) [va_rf x, .int p0, .int p1, .int p2, .ref (lo_ L)] (.inl (some (.int 2))) (LWo (lc L S v) T1) := by
  have hd : xdl T T1 := c_X1_least_dm x p0 p1 p2 T _ h
  refine Ct.ofch (plainFor_of_name (by decide +kernel)) rfl (xvQ (xvI (xvI (xvI (xvQ (r := some (lo_ L)) xvN))))) (Nat.le_of_ble_eq_true rfl) (show Xr G _ 0 [(0, va_rf x), (1, .int p0), (2, .int p1), (3, .int p2), (4, .ref (lo_ L))] [] _ from ?_)
  refine X.aload dX0_least_0 4 rfl ?_
  refine X.iconst (v := 0) dX0_least_2 (by decide) ?_
  refine C.aload_n dX0_least_3 rfl 0 rfl ?_
  refine X.iload_n dX0_least_4 rfl 1 rfl ?_
  refine X.iload_n dX0_least_5 rfl 2 rfl ?_
  refine X.iload_n dX0_least_6 rfl 3 rfl ?_
  refine C.Vt (As := [.int p0, .int p1, .int p2]) (rest := [.int 0, .ref (lo_ L)]) dX0_least_7 (Ct.frame hg (w_X1_least h)) cX0_56 (isO_LW hx) rfl rfl (Nat.le_of_ble_eq_true rfl) rfl rfl (xD (Nat.le_of_ble_eq_true rfl)) hd.2 xle.rf (Xt.catchL (pre := [⟨0, 12, 15, 18⟩]) (suf := []) (z := ⟨0, 12, 19, 13⟩) rfl (fun y hy => by rw [List.mem_singleton.mp hy]; exact ⟨by decide, q1254, rfl⟩) (by decide) (by decide) q733 q744 rfl (tgt := 19) rfl ?_)
  refine C.ast (L' := [(5, va_rf (some e)), (0, va_rf x), (1, .int p0), (2, .int p1), (3, .int p2), (4, .ref (lo_ L))]) dX0_least_19 (Nat.le_of_ble_eq_true rfl) (xcQ (xcI (xcI (xcI (xcQ (r := some (lo_ L)) xcN))))) rfl ?_
  refine X.iconst (v := 2) dX0_least_21 (by decide) ?_
  exact X.iret dX0_least_22 rfl rfl rfl
abbrev cX0_lost : ByteArray := method_27_code
def yX0_lost : MethodName := ⟨RX0, "lost", "(LMouldVotes;I[J)I"⟩
def dkwX0_lost_0 : List UInt8 := [44, 3, 42, 27, 182, 0, 89, 133, 80, 167, 0, 6, 78, 4, 172, 3, 172]
abbrev dktX0_lost_0 : List UInt8 := dkwX0_lost_0 ++ []
theorem dksX0_lost_0 : cX0_lost.data.toList.drop 0 = dktX0_lost_0 := by decide +kernel
theorem dX0_lost_0 : decode cX0_lost 0 = .ok (.aload_n 2, 1) := dk_44 (dk_at dksX0_lost_0 0 rfl rfl)
theorem dX0_lost_1 : decode cX0_lost 1 = .ok (.iconst 0, 1) := dk_3 (dk_at dksX0_lost_0 1 rfl rfl)
theorem dX0_lost_2 : decode cX0_lost 2 = .ok (.aload_n 0, 1) := dk_42 (dk_at dksX0_lost_0 2 rfl rfl)
theorem dX0_lost_3 : decode cX0_lost 3 = .ok (.iload_n 1, 1) := dk_27 (dk_at dksX0_lost_0 3 rfl rfl)
theorem dX0_lost_4 : decode cX0_lost 4 = .ok (.invokevirtual 89, 3) := dk_182 0 89 (dk_at dksX0_lost_0 4 rfl rfl)
theorem dX0_lost_7 : decode cX0_lost 7 = .ok (.i2l, 1) := dk_133 (dk_at dksX0_lost_0 7 rfl rfl)
theorem dX0_lost_8 : decode cX0_lost 8 = .ok (.lastore, 1) := dk_80 (dk_at dksX0_lost_0 8 rfl rfl)
theorem dX0_lost_9 : decode cX0_lost 9 = .ok (.goto 6, 3) := dk_167 0 6 (dk_at dksX0_lost_0 9 rfl rfl)
theorem dX0_lost_12 : decode cX0_lost 12 = .ok (.astore_n 3, 1) := dk_78 (dk_at dksX0_lost_0 12 rfl rfl)
theorem dX0_lost_13 : decode cX0_lost 13 = .ok (.iconst 1, 1) := dk_4 (dk_at dksX0_lost_0 13 rfl rfl)
theorem dX0_lost_14 : decode cX0_lost 14 = .ok (.ireturn, 1) := dk_172 (dk_at dksX0_lost_0 14 rfl rfl)
theorem dX0_lost_15 : decode cX0_lost 15 = .ok (.iconst 0, 1) := dk_3 (dk_at dksX0_lost_0 15 rfl rfl)
theorem dX0_lost_16 : decode cX0_lost 16 = .ok (.ireturn, 1) := dk_172 (dk_at dksX0_lost_0 16 rfl rfl)
abbrev mX0_lost : xM := (yX0_lost, cX0_lost, 4, some .int, [(0, 9, 12, 13)])
theorem cX0_89 : xCV RX0 89 mX1_lost 1 := ⟨lw_V q1503 q1504 q1505 q121 q1506, rfl, ⟨by decide +kernel, by decide +kernel, by decide +kernel⟩, Nat.le_of_ble_eq_true rfl⟩
theorem wl_X0_lost {G : xG} (hg : gR G = fun _ => none) {L : xL} {S : MS} {v : Nat → Int64} {T T1 : xF} {x : Option Nat} {p0 : Int32} {r : Int32} (hn : NN L T) (hx : isO T x 0 = true) (h : c_X1_lost (gW G (lc L S v)) x p0 T = some (.inl r, T1)) : Ct G mX0_lost 128 (LWo (lc L S v) T) [va_rf x, .int p0, .ref (lo_ L)] (.inl (some (.int 0))) (LWo (lc L S (vp_updL v 0 r.toInt64)) T1) := by
  have hd : xdl T T1 := c_X1_lost_dm x p0 T _ h
  have hn1 := hn.dm hd
  refine Ct.ofch (plainFor_of_name (by decide +kernel)) rfl (xvQ (xvI (xvQ (r := some (lo_ L)) xvN))) (Nat.le_of_ble_eq_true rfl) (show Xr G _ 0 [(0, va_rf x), (1, .int p0), (2, .ref (lo_ L))] [] _ from ?_)
  refine X.aload_n dX0_lost_0 rfl 2 rfl ?_
  refine X.iconst (v := 0) dX0_lost_1 (by decide) ?_
  refine C.aload_n dX0_lost_2 rfl 0 rfl ?_
  refine X.iload_n dX0_lost_3 rfl 1 rfl ?_
  refine C.Vi (As := [.int p0]) (rest := [.int 0, .ref (lo_ L)]) dX0_lost_4 (Ct.frame hg (w_X1_lost h)) cX0_89 (isO_LW hx) rfl rfl (Nat.le_of_ble_eq_true rfl) rfl rfl (xD (Nat.le_of_ble_eq_true rfl)) hd.2 xle.rf ?_
  refine X.i2l dX0_lost_7 rfl ?_
  refine LR.last dX0_lost_8 hn1 ?_
  refine X.goto (tgt := 15) dX0_lost_9 (by decide) ?_
  refine X.iconst (v := 0) dX0_lost_15 (by decide) ?_
  exact X.iret dX0_lost_16 rfl rfl rfl
theorem wt_X0_lost_1 {G : xG} (hg : gR G = fun _ => none) {L : xL} {S : MS} {v : Nat → Int64} {T T1 : xF} {x : Option Nat} {p0 : Int32} {e : Nat} (hn : NN L T) (hx : isO T x 0 = true) (h : c_X1_lost (gW G (lc L S v)) x p0 T = some (.inr ("java/lang/IllegalArgumentException", e), T1)) : Ct G mX0_lost 128 (LWo (lc L S v) T) [va_rf x, .int p0, .ref (lo_ L)] (.inl (some (.int 1))) (LWo (lc L S v) T1) := by
  have hd : xdl T T1 := c_X1_lost_dm x p0 T _ h
  refine Ct.ofch (plainFor_of_name (by decide +kernel)) rfl (xvQ (xvI (xvQ (r := some (lo_ L)) xvN))) (Nat.le_of_ble_eq_true rfl) (show Xr G _ 0 [(0, va_rf x), (1, .int p0), (2, .ref (lo_ L))] [] _ from ?_)
  refine X.aload_n dX0_lost_0 rfl 2 rfl ?_
  refine X.iconst (v := 0) dX0_lost_1 (by decide) ?_
  refine C.aload_n dX0_lost_2 rfl 0 rfl ?_
  refine X.iload_n dX0_lost_3 rfl 1 rfl ?_
  refine C.Vt (As := [.int p0]) (rest := [.int 0, .ref (lo_ L)]) dX0_lost_4 (Ct.frame hg (w_X1_lost h)) cX0_89 (isO_LW hx) rfl rfl (Nat.le_of_ble_eq_true rfl) rfl rfl (xD (Nat.le_of_ble_eq_true rfl)) hd.2 xle.rf (Xt.catchL (pre := []) (suf := []) (z := ⟨0, 9, 12, 13⟩) rfl (fun _ h => nomatch h) (by decide) (by decide) q733 q744 rfl (tgt := 12) rfl ?_)
  refine C.ast_n (L' := [(3, va_rf (some e)), (0, va_rf x), (1, .int p0), (2, .ref (lo_ L))]) dX0_lost_12 rfl (Nat.le_of_ble_eq_true rfl) (xcQ (xcI (xcQ (r := some (lo_ L)) xcN))) rfl ?_
  refine X.iconst (v := 1) dX0_lost_13 (by decide) ?_
  exact X.iret dX0_lost_14 rfl rfl rfl
abbrev cX0_margin : ByteArray := method_29_code
def yX0_margin : MethodName := ⟨RX0, "margin", "(LMouldVotes;I[J)I"⟩
def dkwX0_margin_0 : List UInt8 := [44, 3, 42, 27, 182, 0, 95, 133, 80, 167, 0, 6, 78, 4, 172, 3, 172]
abbrev dktX0_margin_0 : List UInt8 := dkwX0_margin_0 ++ []
theorem dksX0_margin_0 : cX0_margin.data.toList.drop 0 = dktX0_margin_0 := by decide +kernel
theorem dX0_margin_0 : decode cX0_margin 0 = .ok (.aload_n 2, 1) := dk_44 (dk_at dksX0_margin_0 0 rfl rfl)
theorem dX0_margin_1 : decode cX0_margin 1 = .ok (.iconst 0, 1) := dk_3 (dk_at dksX0_margin_0 1 rfl rfl)
theorem dX0_margin_2 : decode cX0_margin 2 = .ok (.aload_n 0, 1) := dk_42 (dk_at dksX0_margin_0 2 rfl rfl)
theorem dX0_margin_3 : decode cX0_margin 3 = .ok (.iload_n 1, 1) := dk_27 (dk_at dksX0_margin_0 3 rfl rfl)
theorem dX0_margin_4 : decode cX0_margin 4 = .ok (.invokevirtual 95, 3) := dk_182 0 95 (dk_at dksX0_margin_0 4 rfl rfl)
theorem dX0_margin_7 : decode cX0_margin 7 = .ok (.i2l, 1) := dk_133 (dk_at dksX0_margin_0 7 rfl rfl)
theorem dX0_margin_8 : decode cX0_margin 8 = .ok (.lastore, 1) := dk_80 (dk_at dksX0_margin_0 8 rfl rfl)
theorem dX0_margin_9 : decode cX0_margin 9 = .ok (.goto 6, 3) := dk_167 0 6 (dk_at dksX0_margin_0 9 rfl rfl)
theorem dX0_margin_12 : decode cX0_margin 12 = .ok (.astore_n 3, 1) := dk_78 (dk_at dksX0_margin_0 12 rfl rfl)
theorem dX0_margin_13 : decode cX0_margin 13 = .ok (.iconst 1, 1) := dk_4 (dk_at dksX0_margin_0 13 rfl rfl)
theorem dX0_margin_14 : decode cX0_margin 14 = .ok (.ireturn, 1) := dk_172 (dk_at dksX0_margin_0 14 rfl rfl)
theorem dX0_margin_15 : decode cX0_margin 15 = .ok (.iconst 0, 1) := dk_3 (dk_at dksX0_margin_0 15 rfl rfl)
theorem dX0_margin_16 : decode cX0_margin 16 = .ok (.ireturn, 1) := dk_172 (dk_at dksX0_margin_0 16 rfl rfl)
abbrev mX0_margin : xM := (yX0_margin, cX0_margin, 4, some .int, [(0, 9, 12, 13)])
theorem cX0_95 : xCV RX0 95 mX1_margin 1 := ⟨lw_V q1517 q1518 q1519 q121 q1520, rfl, ⟨by decide +kernel, by decide +kernel, by decide +kernel⟩, Nat.le_of_ble_eq_true rfl⟩
theorem wl_X0_margin {G : xG} (hg : gR G = fun _ => none) {L : xL} {S : MS} {v : Nat → Int64} {T T1 : xF} {x : Option Nat} {p0 : Int32} {r : Int32} (hn : NN L T) (hx : isO T x 0 = true) (h : c_X1_margin (gW G (lc L S v)) x p0 T = some (.inl r, T1)) : Ct G mX0_margin 128 (LWo (lc L S v) T) [va_rf x, .int p0, .ref (lo_ L)] (.inl (some (.int 0))) (LWo (lc L S (vp_updL v 0 r.toInt64)) T1) := by
  have hd : xdl T T1 := c_X1_margin_dm x p0 T _ h
  have hn1 := hn.dm hd
  refine Ct.ofch (plainFor_of_name (by decide +kernel)) rfl (xvQ (xvI (xvQ (r := some (lo_ L)) xvN))) (Nat.le_of_ble_eq_true rfl) (show Xr G _ 0 [(0, va_rf x), (1, .int p0), (2, .ref (lo_ L))] [] _ from ?_)
  refine X.aload_n dX0_margin_0 rfl 2 rfl ?_
  refine X.iconst (v := 0) dX0_margin_1 (by decide) ?_
  refine C.aload_n dX0_margin_2 rfl 0 rfl ?_
  refine X.iload_n dX0_margin_3 rfl 1 rfl ?_
  refine C.Vi (As := [.int p0]) (rest := [.int 0, .ref (lo_ L)]) dX0_margin_4 (Ct.frame hg (w_X1_margin h)) cX0_95 (isO_LW hx) rfl rfl (Nat.le_of_ble_eq_true rfl) rfl rfl (xD (Nat.le_of_ble_eq_true rfl)) hd.2 xle.rf ?_
  refine X.i2l dX0_margin_7 rfl ?_
  refine LR.last dX0_margin_8 hn1 ?_
  refine X.goto (tgt := 15) dX0_margin_9 (by decide) ?_
  refine X.iconst (v := 0) dX0_margin_15 (by decide) ?_
  exact X.iret dX0_margin_16 rfl rfl rfl
theorem wt_X0_margin_1 {G : xG} (hg : gR G = fun _ => none) {L : xL} {S : MS} {v : Nat → Int64} {T T1 : xF} {x : Option Nat} {p0 : Int32} {e : Nat} (hn : NN L T) (hx : isO T x 0 = true) (h : c_X1_margin (gW G (lc L S v)) x p0 T = some (.inr ("java/lang/IllegalArgumentException", e), T1)) : Ct G mX0_margin 128 (LWo (lc L S v) T) [va_rf x, .int p0, .ref (lo_ L)] (.inl (some (.int 1))) (LWo (lc L S v) T1) := by
  have hd : xdl T T1 := c_X1_margin_dm x p0 T _ h
  refine Ct.ofch (plainFor_of_name (by decide +kernel)) rfl (xvQ (xvI (xvQ (r := some (lo_ L)) xvN))) (Nat.le_of_ble_eq_true rfl) (show Xr G _ 0 [(0, va_rf x), (1, .int p0), (2, .ref (lo_ L))] [] _ from ?_)
  refine X.aload_n dX0_margin_0 rfl 2 rfl ?_
  refine X.iconst (v := 0) dX0_margin_1 (by decide) ?_
  refine C.aload_n dX0_margin_2 rfl 0 rfl ?_
  refine X.iload_n dX0_margin_3 rfl 1 rfl ?_
  refine C.Vt (As := [.int p0]) (rest := [.int 0, .ref (lo_ L)]) dX0_margin_4 (Ct.frame hg (w_X1_margin h)) cX0_95 (isO_LW hx) rfl rfl (Nat.le_of_ble_eq_true rfl) rfl rfl (xD (Nat.le_of_ble_eq_true rfl)) hd.2 xle.rf (Xt.catchL (pre := []) (suf := []) (z := ⟨0, 9, 12, 13⟩) rfl (fun _ h => nomatch h) (by decide) (by decide) q733 q744 rfl (tgt := 12) rfl ?_)
  refine C.ast_n (L' := [(3, va_rf (some e)), (0, va_rf x), (1, .int p0), (2, .ref (lo_ L))]) dX0_margin_12 rfl (Nat.le_of_ble_eq_true rfl) (xcQ (xcI (xcQ (r := some (lo_ L)) xcN))) rfl ?_
  refine X.iconst (v := 1) dX0_margin_13 (by decide) ?_
  exact X.iret dX0_margin_14 rfl rfl rfl
abbrev cX0_next : ByteArray := method_22_code
def yX0_next : MethodName := ⟨RX0, "next", "(LMouldVotes;I[J)I"⟩
def dkwX0_next_0 : List UInt8 := [44, 3, 42, 27, 182, 0, 74, 133, 80, 167, 0, 6, 78, 4, 172, 3, 172]
abbrev dktX0_next_0 : List UInt8 := dkwX0_next_0 ++ []
theorem dksX0_next_0 : cX0_next.data.toList.drop 0 = dktX0_next_0 := by decide +kernel
theorem dX0_next_0 : decode cX0_next 0 = .ok (.aload_n 2, 1) := dk_44 (dk_at dksX0_next_0 0 rfl rfl)
theorem dX0_next_1 : decode cX0_next 1 = .ok (.iconst 0, 1) := dk_3 (dk_at dksX0_next_0 1 rfl rfl)
theorem dX0_next_2 : decode cX0_next 2 = .ok (.aload_n 0, 1) := dk_42 (dk_at dksX0_next_0 2 rfl rfl)
theorem dX0_next_3 : decode cX0_next 3 = .ok (.iload_n 1, 1) := dk_27 (dk_at dksX0_next_0 3 rfl rfl)
theorem dX0_next_4 : decode cX0_next 4 = .ok (.invokevirtual 74, 3) := dk_182 0 74 (dk_at dksX0_next_0 4 rfl rfl)
theorem dX0_next_7 : decode cX0_next 7 = .ok (.i2l, 1) := dk_133 (dk_at dksX0_next_0 7 rfl rfl)
theorem dX0_next_8 : decode cX0_next 8 = .ok (.lastore, 1) := dk_80 (dk_at dksX0_next_0 8 rfl rfl)
theorem dX0_next_9 : decode cX0_next 9 = .ok (.goto 6, 3) := dk_167 0 6 (dk_at dksX0_next_0 9 rfl rfl)
theorem dX0_next_12 : decode cX0_next 12 = .ok (.astore_n 3, 1) := dk_78 (dk_at dksX0_next_0 12 rfl rfl)
theorem dX0_next_13 : decode cX0_next 13 = .ok (.iconst 1, 1) := dk_4 (dk_at dksX0_next_0 13 rfl rfl)
theorem dX0_next_14 : decode cX0_next 14 = .ok (.ireturn, 1) := dk_172 (dk_at dksX0_next_0 14 rfl rfl)
theorem dX0_next_15 : decode cX0_next 15 = .ok (.iconst 0, 1) := dk_3 (dk_at dksX0_next_0 15 rfl rfl)
theorem dX0_next_16 : decode cX0_next 16 = .ok (.ireturn, 1) := dk_172 (dk_at dksX0_next_0 16 rfl rfl)
abbrev mX0_next : xM := (yX0_next, cX0_next, 4, some .int, [(0, 9, 12, 18)])
theorem cX0_74 : xCV RX0 74 mX1_next 1 := ⟨lw_V q1451 q1452 q1453 q121 q1454, rfl, ⟨by decide +kernel, by decide +kernel, by decide +kernel⟩, Nat.le_of_ble_eq_true rfl⟩
theorem wl_X0_next {G : xG} (hg : gR G = fun _ => none) {L : xL} {S : MS} {v : Nat → Int64} {T T1 : xF} {x : Option Nat} {p0 : Int32} {r : Int32} (hn : NN L T) (hx : isO T x 0 = true) (h : c_X1_next (gW G (lc L S v)) x p0 T = some (.inl r, T1)) : Ct G mX0_next 128 (LWo (lc L S v) T) [va_rf x, .int p0, .ref (lo_ L)] (.inl (some (.int 0))) (LWo (lc L S (vp_updL v 0 r.toInt64)) T1) := by
  have hd : xdl T T1 := c_X1_next_dm x p0 T _ h
  have hn1 := hn.dm hd
  refine Ct.ofch (plainFor_of_name (by decide +kernel)) rfl (xvQ (xvI (xvQ (r := some (lo_ L)) xvN))) (Nat.le_of_ble_eq_true rfl) (show Xr G _ 0 [(0, va_rf x), (1, .int p0), (2, .ref (lo_ L))] [] _ from ?_)
  refine X.aload_n dX0_next_0 rfl 2 rfl ?_
  refine X.iconst (v := 0) dX0_next_1 (by decide) ?_
  refine C.aload_n dX0_next_2 rfl 0 rfl ?_
  refine X.iload_n dX0_next_3 rfl 1 rfl ?_
  refine C.Vi (As := [.int p0]) (rest := [.int 0, .ref (lo_ L)]) dX0_next_4 (Ct.frame hg (w_X1_next h)) cX0_74 (isO_LW hx) rfl rfl (Nat.le_of_ble_eq_true rfl) rfl rfl (xD (Nat.le_of_ble_eq_true rfl)) hd.2 xle.rf ?_
  refine X.i2l dX0_next_7 rfl ?_
  refine LR.last dX0_next_8 hn1 ?_
  refine X.goto (tgt := 15) dX0_next_9 (by decide) ?_
  refine X.iconst (v := 0) dX0_next_15 (by decide) ?_
  exact X.iret dX0_next_16 rfl rfl rfl
theorem wt_X0_next_1 {G : xG} (hg : gR G = fun _ => none) {L : xL} {S : MS} {v : Nat → Int64} {T T1 : xF} {x : Option Nat} {p0 : Int32} {e : Nat} (hn : NN L T) (hx : isO T x 0 = true) (h : c_X1_next (gW G (lc L S v)) x p0 T = some (.inr ("java/util/NoSuchElementException", e), T1)) : Ct G mX0_next 128 (LWo (lc L S v) T) [va_rf x, .int p0, .ref (lo_ L)] (.inl (some (.int 1))) (LWo (lc L S v) T1) := by
  have hd : xdl T T1 := c_X1_next_dm x p0 T _ h
  refine Ct.ofch (plainFor_of_name (by decide +kernel)) rfl (xvQ (xvI (xvQ (r := some (lo_ L)) xvN))) (Nat.le_of_ble_eq_true rfl) (show Xr G _ 0 [(0, va_rf x), (1, .int p0), (2, .ref (lo_ L))] [] _ from ?_)
  refine X.aload_n dX0_next_0 rfl 2 rfl ?_
  refine X.iconst (v := 0) dX0_next_1 (by decide) ?_
  refine C.aload_n dX0_next_2 rfl 0 rfl ?_
  refine X.iload_n dX0_next_3 rfl 1 rfl ?_
  refine C.Vt (As := [.int p0]) (rest := [.int 0, .ref (lo_ L)]) dX0_next_4 (Ct.frame hg (w_X1_next h)) cX0_74 (isO_LW hx) rfl rfl (Nat.le_of_ble_eq_true rfl) rfl rfl (xD (Nat.le_of_ble_eq_true rfl)) hd.2 xle.rf (Xt.catchL (pre := []) (suf := []) (z := ⟨0, 9, 12, 18⟩) rfl (fun _ h => nomatch h) (by decide) (by decide) q1254 q1273 rfl (tgt := 12) rfl ?_)
  refine C.ast_n (L' := [(3, va_rf (some e)), (0, va_rf x), (1, .int p0), (2, .ref (lo_ L))]) dX0_next_12 rfl (Nat.le_of_ble_eq_true rfl) (xcQ (xcI (xcQ (r := some (lo_ L)) xcN))) rfl ?_
  refine X.iconst (v := 1) dX0_next_13 (by decide) ?_
  exact X.iret dX0_next_14 rfl rfl rfl
abbrev cX0_party : ByteArray := method_6_code
def yX0_party : MethodName := ⟨RX0, "party", "(LMouldVotes;I[J)I"⟩
def dkwX0_party_0 : List UInt8 := [44, 3, 42, 27, 182, 0, 24, 133, 80, 167, 0, 6, 78, 4, 172, 3, 172]
abbrev dktX0_party_0 : List UInt8 := dkwX0_party_0 ++ []
theorem dksX0_party_0 : cX0_party.data.toList.drop 0 = dktX0_party_0 := by decide +kernel
theorem dX0_party_0 : decode cX0_party 0 = .ok (.aload_n 2, 1) := dk_44 (dk_at dksX0_party_0 0 rfl rfl)
theorem dX0_party_1 : decode cX0_party 1 = .ok (.iconst 0, 1) := dk_3 (dk_at dksX0_party_0 1 rfl rfl)
theorem dX0_party_2 : decode cX0_party 2 = .ok (.aload_n 0, 1) := dk_42 (dk_at dksX0_party_0 2 rfl rfl)
theorem dX0_party_3 : decode cX0_party 3 = .ok (.iload_n 1, 1) := dk_27 (dk_at dksX0_party_0 3 rfl rfl)
theorem dX0_party_4 : decode cX0_party 4 = .ok (.invokevirtual 24, 3) := dk_182 0 24 (dk_at dksX0_party_0 4 rfl rfl)
theorem dX0_party_7 : decode cX0_party 7 = .ok (.i2l, 1) := dk_133 (dk_at dksX0_party_0 7 rfl rfl)
theorem dX0_party_8 : decode cX0_party 8 = .ok (.lastore, 1) := dk_80 (dk_at dksX0_party_0 8 rfl rfl)
theorem dX0_party_9 : decode cX0_party 9 = .ok (.goto 6, 3) := dk_167 0 6 (dk_at dksX0_party_0 9 rfl rfl)
theorem dX0_party_12 : decode cX0_party 12 = .ok (.astore_n 3, 1) := dk_78 (dk_at dksX0_party_0 12 rfl rfl)
theorem dX0_party_13 : decode cX0_party 13 = .ok (.iconst 1, 1) := dk_4 (dk_at dksX0_party_0 13 rfl rfl)
theorem dX0_party_14 : decode cX0_party 14 = .ok (.ireturn, 1) := dk_172 (dk_at dksX0_party_0 14 rfl rfl)
theorem dX0_party_15 : decode cX0_party 15 = .ok (.iconst 0, 1) := dk_3 (dk_at dksX0_party_0 15 rfl rfl)
theorem dX0_party_16 : decode cX0_party 16 = .ok (.ireturn, 1) := dk_172 (dk_at dksX0_party_0 16 rfl rfl)
abbrev mX0_party : xM := (yX0_party, cX0_party, 4, some .int, [(0, 9, 12, 18)])
theorem cX0_24 : xCV RX0 24 mX1_party 1 := ⟨lw_V q1305 q1306 q1307 q121 q1308, rfl, ⟨by decide +kernel, by decide +kernel, by decide +kernel⟩, Nat.le_of_ble_eq_true rfl⟩
theorem wl_X0_party {G : xG} (hg : gR G = fun _ => none) {L : xL} {S : MS} {v : Nat → Int64} {T T1 : xF} {x : Option Nat} {p0 : Int32} {r : Int32} (hn : NN L T) (hx : isO T x 0 = true) (h : c_X1_party x p0 T = some (.inl r, T1)) : Ct G mX0_party 10 (LWo (lc L S v) T) [va_rf x, .int p0, .ref (lo_ L)] (.inl (some (.int 0))) (LWo (lc L S (vp_updL v 0 r.toInt64)) T1) := by
  have hd : xdl T T1 := c_X1_party_dm x p0 T _ h
  have hn1 := hn.dm hd
  refine Ct.ofch (plainFor_of_name (by decide +kernel)) rfl (xvQ (xvI (xvQ (r := some (lo_ L)) xvN))) (Nat.le_of_ble_eq_true rfl) (show Xr G _ 0 [(0, va_rf x), (1, .int p0), (2, .ref (lo_ L))] [] _ from ?_)
  refine X.aload_n dX0_party_0 rfl 2 rfl ?_
  refine X.iconst (v := 0) dX0_party_1 (by decide) ?_
  refine C.aload_n dX0_party_2 rfl 0 rfl ?_
  refine X.iload_n dX0_party_3 rfl 1 rfl ?_
  refine C.Vi (As := [.int p0]) (rest := [.int 0, .ref (lo_ L)]) dX0_party_4 (Ct.frame hg (w_X1_party h)) cX0_24 (isO_LW hx) rfl rfl (Nat.le_of_ble_eq_true rfl) rfl rfl (xD (Nat.le_of_ble_eq_true rfl)) hd.2 xle.rf ?_
  refine X.i2l dX0_party_7 rfl ?_
  refine LR.last dX0_party_8 hn1 ?_
  refine X.goto (tgt := 15) dX0_party_9 (by decide) ?_
  refine X.iconst (v := 0) dX0_party_15 (by decide) ?_
  exact X.iret dX0_party_16 rfl rfl rfl
theorem wt_X0_party_1 {G : xG} (hg : gR G = fun _ => none) {L : xL} {S : MS} {v : Nat → Int64} {T T1 : xF} {x : Option Nat} {p0 : Int32} {e : Nat} (hn : NN L T) (hx : isO T x 0 = true) (h : c_X1_party x p0 T = some (.inr ("java/util/NoSuchElementException", e), T1)) : Ct G mX0_party 10 (LWo (lc L S v) T) [va_rf x, .int p0, .ref (lo_ L)] (.inl (some (.int 1))) (LWo (lc L S v) T1) := by
  have hd : xdl T T1 := c_X1_party_dm x p0 T _ h
  refine Ct.ofch (plainFor_of_name (by decide +kernel)) rfl (xvQ (xvI (xvQ (r := some (lo_ L)) xvN))) (Nat.le_of_ble_eq_true rfl) (show Xr G _ 0 [(0, va_rf x), (1, .int p0), (2, .ref (lo_ L))] [] _ from ?_)
  refine X.aload_n dX0_party_0 rfl 2 rfl ?_
  refine X.iconst (v := 0) dX0_party_1 (by decide) ?_
  refine C.aload_n dX0_party_2 rfl 0 rfl ?_
  refine X.iload_n dX0_party_3 rfl 1 rfl ?_
  refine C.Vt (As := [.int p0]) (rest := [.int 0, .ref (lo_ L)]) dX0_party_4 (Ct.frame hg (w_X1_party h)) cX0_24 (isO_LW hx) rfl rfl (Nat.le_of_ble_eq_true rfl) rfl rfl (xD (Nat.le_of_ble_eq_true rfl)) hd.2 xle.rf (Xt.catchL (pre := []) (suf := []) (z := ⟨0, 9, 12, 18⟩) rfl (fun _ h => nomatch h) (by decide) (by decide) q1254 q1273 rfl (tgt := 12) rfl ?_)
  refine C.ast_n (L' := [(3, va_rf (some e)), (0, va_rf x), (1, .int p0), (2, .ref (lo_ L))]) dX0_party_12 rfl (Nat.le_of_ble_eq_true rfl) (xcQ (xcI (xcQ (r := some (lo_ L)) xcN))) rfl ?_
  refine X.iconst (v := 1) dX0_party_13 (by decide) ?_
  exact X.iret dX0_party_14 rfl rfl rfl
abbrev cX0_patch : ByteArray := method_30_code
def yX0_patch : MethodName := ⟨RX0, "patch", "(LMouldVotes;I[J)I"⟩
def dkwX0_patch_0 : List UInt8 := [44, 3, 42, 27, 182, 0, 98, 133, 80, 167, 0, 6, 78, 4, 172, 3, 172]
abbrev dktX0_patch_0 : List UInt8 := dkwX0_patch_0 ++ []
theorem dksX0_patch_0 : cX0_patch.data.toList.drop 0 = dktX0_patch_0 := by decide +kernel
theorem dX0_patch_0 : decode cX0_patch 0 = .ok (.aload_n 2, 1) := dk_44 (dk_at dksX0_patch_0 0 rfl rfl)
theorem dX0_patch_1 : decode cX0_patch 1 = .ok (.iconst 0, 1) := dk_3 (dk_at dksX0_patch_0 1 rfl rfl)
theorem dX0_patch_2 : decode cX0_patch 2 = .ok (.aload_n 0, 1) := dk_42 (dk_at dksX0_patch_0 2 rfl rfl)
theorem dX0_patch_3 : decode cX0_patch 3 = .ok (.iload_n 1, 1) := dk_27 (dk_at dksX0_patch_0 3 rfl rfl)
theorem dX0_patch_4 : decode cX0_patch 4 = .ok (.invokevirtual 98, 3) := dk_182 0 98 (dk_at dksX0_patch_0 4 rfl rfl)
theorem dX0_patch_7 : decode cX0_patch 7 = .ok (.i2l, 1) := dk_133 (dk_at dksX0_patch_0 7 rfl rfl)
theorem dX0_patch_8 : decode cX0_patch 8 = .ok (.lastore, 1) := dk_80 (dk_at dksX0_patch_0 8 rfl rfl)
theorem dX0_patch_9 : decode cX0_patch 9 = .ok (.goto 6, 3) := dk_167 0 6 (dk_at dksX0_patch_0 9 rfl rfl)
theorem dX0_patch_12 : decode cX0_patch 12 = .ok (.astore_n 3, 1) := dk_78 (dk_at dksX0_patch_0 12 rfl rfl)
theorem dX0_patch_13 : decode cX0_patch 13 = .ok (.iconst 1, 1) := dk_4 (dk_at dksX0_patch_0 13 rfl rfl)
theorem dX0_patch_14 : decode cX0_patch 14 = .ok (.ireturn, 1) := dk_172 (dk_at dksX0_patch_0 14 rfl rfl)
theorem dX0_patch_15 : decode cX0_patch 15 = .ok (.iconst 0, 1) := dk_3 (dk_at dksX0_patch_0 15 rfl rfl)
theorem dX0_patch_16 : decode cX0_patch 16 = .ok (.ireturn, 1) := dk_172 (dk_at dksX0_patch_0 16 rfl rfl)
abbrev mX0_patch : xM := (yX0_patch, cX0_patch, 4, some .int, [(0, 9, 12, 18)])
theorem cX0_98 : xCV RX0 98 mX1_patch 1 := ⟨lw_V q1524 q1525 q1526 q121 q1527, rfl, ⟨by decide +kernel, by decide +kernel, by decide +kernel⟩, Nat.le_of_ble_eq_true rfl⟩
theorem wl_X0_patch {G : xG} (hg : gR G = fun _ => none) {L : xL} {S : MS} {v : Nat → Int64} {T T1 : xF} {x : Option Nat} {p0 : Int32} {r : Int32} (hn : NN L T) (hx : isO T x 0 = true) (h : c_X1_patch x p0 T = some (.inl r, T1)) : Ct G mX0_patch 62 (LWo (lc L S v) T) [va_rf x, .int p0, .ref (lo_ L)] (.inl (some (.int 0))) (LWo (lc L S (vp_updL v 0 r.toInt64)) T1) := by
  have hd : xdl T T1 := c_X1_patch_dm x p0 T _ h
  have hn1 := hn.dm hd
  refine Ct.ofch (plainFor_of_name (by decide +kernel)) rfl (xvQ (xvI (xvQ (r := some (lo_ L)) xvN))) (Nat.le_of_ble_eq_true rfl) (show Xr G _ 0 [(0, va_rf x), (1, .int p0), (2, .ref (lo_ L))] [] _ from ?_)
  refine X.aload_n dX0_patch_0 rfl 2 rfl ?_
  refine X.iconst (v := 0) dX0_patch_1 (by decide) ?_
  refine C.aload_n dX0_patch_2 rfl 0 rfl ?_
  refine X.iload_n dX0_patch_3 rfl 1 rfl ?_
  refine C.Vi (As := [.int p0]) (rest := [.int 0, .ref (lo_ L)]) dX0_patch_4 (Ct.frame hg (w_X1_patch h)) cX0_98 (isO_LW hx) rfl rfl (Nat.le_of_ble_eq_true rfl) rfl rfl (xD (Nat.le_of_ble_eq_true rfl)) hd.2 xle.rf ?_
  refine X.i2l dX0_patch_7 rfl ?_
  refine LR.last dX0_patch_8 hn1 ?_
  refine X.goto (tgt := 15) dX0_patch_9 (by decide) ?_
  refine X.iconst (v := 0) dX0_patch_15 (by decide) ?_
  exact X.iret dX0_patch_16 rfl rfl rfl
theorem wt_X0_patch_1 {G : xG} (hg : gR G = fun _ => none) {L : xL} {S : MS} {v : Nat → Int64} {T T1 : xF} {x : Option Nat} {p0 : Int32} {e : Nat} (hn : NN L T) (hx : isO T x 0 = true) (h : c_X1_patch x p0 T = some (.inr ("java/util/NoSuchElementException", e), T1)) : Ct G mX0_patch 62 (LWo (lc L S v) T) [va_rf x, .int p0, .ref (lo_ L)] (.inl (some (.int 1))) (LWo (lc L S v) T1) := by
  have hd : xdl T T1 := c_X1_patch_dm x p0 T _ h
  refine Ct.ofch (plainFor_of_name (by decide +kernel)) rfl (xvQ (xvI (xvQ (r := some (lo_ L)) xvN))) (Nat.le_of_ble_eq_true rfl) (show Xr G _ 0 [(0, va_rf x), (1, .int p0), (2, .ref (lo_ L))] [] _ from ?_)
  refine X.aload_n dX0_patch_0 rfl 2 rfl ?_
  refine X.iconst (v := 0) dX0_patch_1 (by decide) ?_
  refine C.aload_n dX0_patch_2 rfl 0 rfl ?_
  refine X.iload_n dX0_patch_3 rfl 1 rfl ?_
  refine C.Vt (As := [.int p0]) (rest := [.int 0, .ref (lo_ L)]) dX0_patch_4 (Ct.frame hg (w_X1_patch h)) cX0_98 (isO_LW hx) rfl rfl (Nat.le_of_ble_eq_true rfl) rfl rfl (xD (Nat.le_of_ble_eq_true rfl)) hd.2 xle.rf (Xt.catchL (pre := []) (suf := []) (z := ⟨0, 9, 12, 18⟩) rfl (fun _ h => nomatch h) (by decide) (by decide) q1254 q1273 rfl (tgt := 12) rfl ?_)
  refine C.ast_n (L' := [(3, va_rf (some e)), (0, va_rf x), (1, .int p0), (2, .ref (lo_ L))]) dX0_patch_12 rfl (Nat.le_of_ble_eq_true rfl) (xcQ (xcI (xcQ (r := some (lo_ L)) xcN))) rfl ?_
  refine X.iconst (v := 1) dX0_patch_13 (by decide) ?_
  exact X.iret dX0_patch_14 rfl rfl rfl
abbrev cX0_roll : ByteArray := method_3_code
def yX0_roll : MethodName := ⟨RX0, "roll", "(LMouldVotes;I[J)I"⟩
def dkwX0_roll_0 : List UInt8 := [44, 3, 42, 27, 182, 0, 7, 133, 80, 167, 0, 6, 78, 4, 172, 3, 172]
abbrev dktX0_roll_0 : List UInt8 := dkwX0_roll_0 ++ []
theorem dksX0_roll_0 : cX0_roll.data.toList.drop 0 = dktX0_roll_0 := by decide +kernel
theorem dX0_roll_0 : decode cX0_roll 0 = .ok (.aload_n 2, 1) := dk_44 (dk_at dksX0_roll_0 0 rfl rfl)
theorem dX0_roll_1 : decode cX0_roll 1 = .ok (.iconst 0, 1) := dk_3 (dk_at dksX0_roll_0 1 rfl rfl)
theorem dX0_roll_2 : decode cX0_roll 2 = .ok (.aload_n 0, 1) := dk_42 (dk_at dksX0_roll_0 2 rfl rfl)
theorem dX0_roll_3 : decode cX0_roll 3 = .ok (.iload_n 1, 1) := dk_27 (dk_at dksX0_roll_0 3 rfl rfl)
theorem dX0_roll_4 : decode cX0_roll 4 = .ok (.invokevirtual 7, 3) := dk_182 0 7 (dk_at dksX0_roll_0 4 rfl rfl)
theorem dX0_roll_7 : decode cX0_roll 7 = .ok (.i2l, 1) := dk_133 (dk_at dksX0_roll_0 7 rfl rfl)
theorem dX0_roll_8 : decode cX0_roll 8 = .ok (.lastore, 1) := dk_80 (dk_at dksX0_roll_0 8 rfl rfl)
theorem dX0_roll_9 : decode cX0_roll 9 = .ok (.goto 6, 3) := dk_167 0 6 (dk_at dksX0_roll_0 9 rfl rfl)
theorem dX0_roll_12 : decode cX0_roll 12 = .ok (.astore_n 3, 1) := dk_78 (dk_at dksX0_roll_0 12 rfl rfl)
theorem dX0_roll_13 : decode cX0_roll 13 = .ok (.iconst 1, 1) := dk_4 (dk_at dksX0_roll_0 13 rfl rfl)
theorem dX0_roll_14 : decode cX0_roll 14 = .ok (.ireturn, 1) := dk_172 (dk_at dksX0_roll_0 14 rfl rfl)
theorem dX0_roll_15 : decode cX0_roll 15 = .ok (.iconst 0, 1) := dk_3 (dk_at dksX0_roll_0 15 rfl rfl)
theorem dX0_roll_16 : decode cX0_roll 16 = .ok (.ireturn, 1) := dk_172 (dk_at dksX0_roll_0 16 rfl rfl)
abbrev mX0_roll : xM := (yX0_roll, cX0_roll, 4, some .int, [(0, 9, 12, 13)])
theorem cX0_7 : xCVW RX0 7 mX1_roll 1 := ⟨_, _, rfl, lw_VW q734 q735 q736 q121 q737, ⟨by decide +kernel, by decide +kernel, by decide +kernel⟩, Nat.le_of_ble_eq_true rfl⟩
theorem wl_X0_roll {G : xG} (hg : gR G = fun _ => none) {L : xL} {S : MS} {v : Nat → Int64} {T T1 : xF} {x : Option Nat} {p0 : Int32} {r : Int32} (hn : NN L T) (hx : isO T x 0 = true) (h : c_X1_roll (gW G (lc L S v)) x p0 T = some (.inl r, T1)) : Ct G mX0_roll 73 (LWo (lc L S v) T) [va_rf x, .int p0, .ref (lo_ L)] (.inl (some (.int 0))) (LWo (lc L S (vp_updL v 0 r.toInt64)) T1) := by
  have hd : xdl T T1 := c_X1_roll_dm x p0 T _ h
  have hn1 := hn.dm hd
  refine Ct.ofch (plainFor_of_name (by decide +kernel)) rfl (xvQ (xvI (xvQ (r := some (lo_ L)) xvN))) (Nat.le_of_ble_eq_true rfl) (show Xr G _ 0 [(0, va_rf x), (1, .int p0), (2, .ref (lo_ L))] [] _ from ?_)
  refine X.aload_n dX0_roll_0 rfl 2 rfl ?_
  refine X.iconst (v := 0) dX0_roll_1 (by decide) ?_
  refine C.aload_n dX0_roll_2 rfl 0 rfl ?_
  refine X.iload_n dX0_roll_3 rfl 1 rfl ?_
  refine LR.vw (As := [.int p0]) (rest := [.int 0, .ref (lo_ L)]) dX0_roll_4 (Ct.frame hg (w_X1_roll h)) cX0_7 (isO_LW hx) rfl rfl (Nat.le_of_ble_eq_true rfl) rfl rfl (xD (Nat.le_of_ble_eq_true rfl)) hd.2 xle.rf ?_
  refine X.i2l dX0_roll_7 rfl ?_
  refine LR.last dX0_roll_8 hn1 ?_
  refine X.goto (tgt := 15) dX0_roll_9 (by decide) ?_
  refine X.iconst (v := 0) dX0_roll_15 (by decide) ?_
  exact X.iret dX0_roll_16 rfl rfl rfl
theorem wt_X0_roll_1 {G : xG} (hg : gR G = fun _ => none) {L : xL} {S : MS} {v : Nat → Int64} {T T1 : xF} {x : Option Nat} {p0 : Int32} {e : Nat} (hn : NN L T) (hx : isO T x 0 = true) (h : c_X1_roll (gW G (lc L S v)) x p0 T = some (.inr ("java/lang/IllegalArgumentException", e), T1)) : Ct G mX0_roll 73 (LWo (lc L S v) T) [va_rf x, .int p0, .ref (lo_ L)] (.inl (some (.int 1))) (LWo (lc L S v) T1) := by
  have hd : xdl T T1 := c_X1_roll_dm x p0 T _ h
  refine Ct.ofch (plainFor_of_name (by decide +kernel)) rfl (xvQ (xvI (xvQ (r := some (lo_ L)) xvN))) (Nat.le_of_ble_eq_true rfl) (show Xr G _ 0 [(0, va_rf x), (1, .int p0), (2, .ref (lo_ L))] [] _ from ?_)
  refine X.aload_n dX0_roll_0 rfl 2 rfl ?_
  refine X.iconst (v := 0) dX0_roll_1 (by decide) ?_
  refine C.aload_n dX0_roll_2 rfl 0 rfl ?_
  refine X.iload_n dX0_roll_3 rfl 1 rfl ?_
  refine LR.vwt (As := [.int p0]) (rest := [.int 0, .ref (lo_ L)]) dX0_roll_4 (Ct.frame hg (w_X1_roll h)) cX0_7 (isO_LW hx) rfl rfl (Nat.le_of_ble_eq_true rfl) rfl rfl (xD (Nat.le_of_ble_eq_true rfl)) hd.2 xle.rf (Xt.catchL (pre := []) (suf := []) (z := ⟨0, 9, 12, 13⟩) rfl (fun _ h => nomatch h) (by decide) (by decide) q733 q744 rfl (tgt := 12) rfl ?_)
  refine C.ast_n (L' := [(3, va_rf (some e)), (0, va_rf x), (1, .int p0), (2, .ref (lo_ L))]) dX0_roll_12 rfl (Nat.le_of_ble_eq_true rfl) (xcQ (xcI (xcQ (r := some (lo_ L)) xcN))) rfl ?_
  refine X.iconst (v := 1) dX0_roll_13 (by decide) ?_
  exact X.iret dX0_roll_14 rfl rfl rfl
abbrev cX0_scrape : ByteArray := method_11_code
def yX0_scrape : MethodName := ⟨RX0, "scrape", "(LMouldVotes;I[J)I"⟩
def dkwX0_scrape_0 : List UInt8 := [44, 3, 42, 27, 182, 0, 40, 133, 80, 167, 0, 6, 78, 4, 172, 3, 172]
abbrev dktX0_scrape_0 : List UInt8 := dkwX0_scrape_0 ++ []
theorem dksX0_scrape_0 : cX0_scrape.data.toList.drop 0 = dktX0_scrape_0 := by decide +kernel
theorem dX0_scrape_0 : decode cX0_scrape 0 = .ok (.aload_n 2, 1) := dk_44 (dk_at dksX0_scrape_0 0 rfl rfl)
theorem dX0_scrape_1 : decode cX0_scrape 1 = .ok (.iconst 0, 1) := dk_3 (dk_at dksX0_scrape_0 1 rfl rfl)
theorem dX0_scrape_2 : decode cX0_scrape 2 = .ok (.aload_n 0, 1) := dk_42 (dk_at dksX0_scrape_0 2 rfl rfl)
theorem dX0_scrape_3 : decode cX0_scrape 3 = .ok (.iload_n 1, 1) := dk_27 (dk_at dksX0_scrape_0 3 rfl rfl)
theorem dX0_scrape_4 : decode cX0_scrape 4 = .ok (.invokevirtual 40, 3) := dk_182 0 40 (dk_at dksX0_scrape_0 4 rfl rfl)
theorem dX0_scrape_7 : decode cX0_scrape 7 = .ok (.i2l, 1) := dk_133 (dk_at dksX0_scrape_0 7 rfl rfl)
theorem dX0_scrape_8 : decode cX0_scrape 8 = .ok (.lastore, 1) := dk_80 (dk_at dksX0_scrape_0 8 rfl rfl)
theorem dX0_scrape_9 : decode cX0_scrape 9 = .ok (.goto 6, 3) := dk_167 0 6 (dk_at dksX0_scrape_0 9 rfl rfl)
theorem dX0_scrape_12 : decode cX0_scrape 12 = .ok (.astore_n 3, 1) := dk_78 (dk_at dksX0_scrape_0 12 rfl rfl)
theorem dX0_scrape_13 : decode cX0_scrape 13 = .ok (.iconst 1, 1) := dk_4 (dk_at dksX0_scrape_0 13 rfl rfl)
theorem dX0_scrape_14 : decode cX0_scrape 14 = .ok (.ireturn, 1) := dk_172 (dk_at dksX0_scrape_0 14 rfl rfl)
theorem dX0_scrape_15 : decode cX0_scrape 15 = .ok (.iconst 0, 1) := dk_3 (dk_at dksX0_scrape_0 15 rfl rfl)
theorem dX0_scrape_16 : decode cX0_scrape 16 = .ok (.ireturn, 1) := dk_172 (dk_at dksX0_scrape_0 16 rfl rfl)
abbrev mX0_scrape : xM := (yX0_scrape, cX0_scrape, 4, some .int, [(0, 9, 12, 18)])
theorem cX0_40 : xCV RX0 40 mX1_scrape 1 := ⟨lw_V q1351 q1352 q1353 q121 q1354, rfl, ⟨by decide +kernel, by decide +kernel, by decide +kernel⟩, Nat.le_of_ble_eq_true rfl⟩
theorem wl_X0_scrape {G : xG} (hg : gR G = fun _ => none) {L : xL} {S : MS} {v : Nat → Int64} {T T1 : xF} {x : Option Nat} {p0 : Int32} {r : Int32} (hn : NN L T) (hx : isO T x 0 = true) (h : c_X1_scrape (gW G (lc L S v)) x p0 T = some (.inl r, T1)) : Ct G mX0_scrape 10 (LWo (lc L S v) T) [va_rf x, .int p0, .ref (lo_ L)] (.inl (some (.int 0))) (LWo (lc L S (vp_updL v 0 r.toInt64)) T1) := by
  have hd : xdl T T1 := c_X1_scrape_dm x p0 T _ h
  have hn1 := hn.dm hd
  refine Ct.ofch (plainFor_of_name (by decide +kernel)) rfl (xvQ (xvI (xvQ (r := some (lo_ L)) xvN))) (Nat.le_of_ble_eq_true rfl) (show Xr G _ 0 [(0, va_rf x), (1, .int p0), (2, .ref (lo_ L))] [] _ from ?_)
  refine X.aload_n dX0_scrape_0 rfl 2 rfl ?_
  refine X.iconst (v := 0) dX0_scrape_1 (by decide) ?_
  refine C.aload_n dX0_scrape_2 rfl 0 rfl ?_
  refine X.iload_n dX0_scrape_3 rfl 1 rfl ?_
  refine C.Vi (As := [.int p0]) (rest := [.int 0, .ref (lo_ L)]) dX0_scrape_4 (Ct.frame hg (w_X1_scrape h)) cX0_40 (isO_LW hx) rfl rfl (Nat.le_of_ble_eq_true rfl) rfl rfl (xD (Nat.le_of_ble_eq_true rfl)) hd.2 xle.rf ?_
  refine X.i2l dX0_scrape_7 rfl ?_
  refine LR.last dX0_scrape_8 hn1 ?_
  refine X.goto (tgt := 15) dX0_scrape_9 (by decide) ?_
  refine X.iconst (v := 0) dX0_scrape_15 (by decide) ?_
  exact X.iret dX0_scrape_16 rfl rfl rfl
theorem wt_X0_scrape_1 {G : xG} (hg : gR G = fun _ => none) {L : xL} {S : MS} {v : Nat → Int64} {T T1 : xF} {x : Option Nat} {p0 : Int32} {e : Nat} (hn : NN L T) (hx : isO T x 0 = true) (h : c_X1_scrape (gW G (lc L S v)) x p0 T = some (.inr ("java/util/NoSuchElementException", e), T1)) : Ct G mX0_scrape 10 (LWo (lc L S v) T) [va_rf x, .int p0, .ref (lo_ L)] (.inl (some (.int 1))) (LWo (lc L S v) T1) := by
  have hd : xdl T T1 := c_X1_scrape_dm x p0 T _ h
  refine Ct.ofch (plainFor_of_name (by decide +kernel)) rfl (xvQ (xvI (xvQ (r := some (lo_ L)) xvN))) (Nat.le_of_ble_eq_true rfl) (show Xr G _ 0 [(0, va_rf x), (1, .int p0), (2, .ref (lo_ L))] [] _ from ?_)
  refine X.aload_n dX0_scrape_0 rfl 2 rfl ?_
  refine X.iconst (v := 0) dX0_scrape_1 (by decide) ?_
  refine C.aload_n dX0_scrape_2 rfl 0 rfl ?_
  refine X.iload_n dX0_scrape_3 rfl 1 rfl ?_
  refine C.Vt (As := [.int p0]) (rest := [.int 0, .ref (lo_ L)]) dX0_scrape_4 (Ct.frame hg (w_X1_scrape h)) cX0_40 (isO_LW hx) rfl rfl (Nat.le_of_ble_eq_true rfl) rfl rfl (xD (Nat.le_of_ble_eq_true rfl)) hd.2 xle.rf (Xt.catchL (pre := []) (suf := []) (z := ⟨0, 9, 12, 18⟩) rfl (fun _ h => nomatch h) (by decide) (by decide) q1254 q1273 rfl (tgt := 12) rfl ?_)
  refine C.ast_n (L' := [(3, va_rf (some e)), (0, va_rf x), (1, .int p0), (2, .ref (lo_ L))]) dX0_scrape_12 rfl (Nat.le_of_ble_eq_true rfl) (xcQ (xcI (xcQ (r := some (lo_ L)) xcN))) rfl ?_
  refine X.iconst (v := 1) dX0_scrape_13 (by decide) ?_
  exact X.iret dX0_scrape_14 rfl rfl rfl
abbrev cX0_see : ByteArray := method_20_code
def yX0_see : MethodName := ⟨RX0, "see", "(LMouldVotes;III[J)I"⟩
def dkwX0_see_0 : List UInt8 := [25, 4, 3, 42, 27, 28, 29, 182, 0, 68, 133, 80, 167, 0, 7, 58, 5, 4, 172, 3, 172]
abbrev dktX0_see_0 : List UInt8 := dkwX0_see_0 ++ []
theorem dksX0_see_0 : cX0_see.data.toList.drop 0 = dktX0_see_0 := by decide +kernel
theorem dX0_see_0 : decode cX0_see 0 = .ok (.aload 4, 2) := dk_25 4 (dk_at dksX0_see_0 0 rfl rfl)
theorem dX0_see_2 : decode cX0_see 2 = .ok (.iconst 0, 1) := dk_3 (dk_at dksX0_see_0 2 rfl rfl)
theorem dX0_see_3 : decode cX0_see 3 = .ok (.aload_n 0, 1) := dk_42 (dk_at dksX0_see_0 3 rfl rfl)
theorem dX0_see_4 : decode cX0_see 4 = .ok (.iload_n 1, 1) := dk_27 (dk_at dksX0_see_0 4 rfl rfl)
theorem dX0_see_5 : decode cX0_see 5 = .ok (.iload_n 2, 1) := dk_28 (dk_at dksX0_see_0 5 rfl rfl)
theorem dX0_see_6 : decode cX0_see 6 = .ok (.iload_n 3, 1) := dk_29 (dk_at dksX0_see_0 6 rfl rfl)
theorem dX0_see_7 : decode cX0_see 7 = .ok (.invokevirtual 68, 3) := dk_182 0 68 (dk_at dksX0_see_0 7 rfl rfl)
theorem dX0_see_10 : decode cX0_see 10 = .ok (.i2l, 1) := dk_133 (dk_at dksX0_see_0 10 rfl rfl)
theorem dX0_see_11 : decode cX0_see 11 = .ok (.lastore, 1) := dk_80 (dk_at dksX0_see_0 11 rfl rfl)
theorem dX0_see_12 : decode cX0_see 12 = .ok (.goto 7, 3) := dk_167 0 7 (dk_at dksX0_see_0 12 rfl rfl)
theorem dX0_see_15 : decode cX0_see 15 = .ok (.astore 5, 2) := dk_58 5 (dk_at dksX0_see_0 15 rfl rfl)
theorem dX0_see_17 : decode cX0_see 17 = .ok (.iconst 1, 1) := dk_4 (dk_at dksX0_see_0 17 rfl rfl)
theorem dX0_see_18 : decode cX0_see 18 = .ok (.ireturn, 1) := dk_172 (dk_at dksX0_see_0 18 rfl rfl)
theorem dX0_see_19 : decode cX0_see 19 = .ok (.iconst 0, 1) := dk_3 (dk_at dksX0_see_0 19 rfl rfl)
theorem dX0_see_20 : decode cX0_see 20 = .ok (.ireturn, 1) := dk_172 (dk_at dksX0_see_0 20 rfl rfl)
abbrev mX0_see : xM := (yX0_see, cX0_see, 6, some .int, [(0, 12, 15, 18)])
theorem cX0_68 : xCV RX0 68 mX1_see 3 := ⟨lw_V q1423 q1424 q1425 q121 q1426, rfl, ⟨by decide +kernel, by decide +kernel, by decide +kernel⟩, Nat.le_of_ble_eq_true rfl⟩
theorem wl_X0_see {G : xG} (hg : gR G = fun _ => none) {L : xL} {S : MS} {v : Nat → Int64} {T T1 : xF} {x : Option Nat} {p0 : Int32} {p1 : Int32} {p2 : Int32} {r : Int32} (hn : NN L T) (hx : isO T x 0 = true) (h : c_X1_see (gW G (lc L S v)) x p0 p1 p2 T = some (.inl r, T1)) : Ct G mX0_see 10 (LWo (lc L S v) T) [va_rf x, .int p0, .int p1, .int p2, .ref (lo_ L)] (.inl (some (.int 0))) (LWo (lc L S (vp_updL v 0 r.toInt64)) T1) := by
  have hd : xdl T T1 := c_X1_see_dm x p0 p1 p2 T _ h
  have hn1 := hn.dm hd
  refine Ct.ofch (plainFor_of_name (by decide +kernel)) rfl (xvQ (xvI (xvI (xvI (xvQ (r := some (lo_ L)) xvN))))) (Nat.le_of_ble_eq_true rfl) (show Xr G _ 0 [(0, va_rf x), (1, .int p0), (2, .int p1), (3, .int p2), (4, .ref (lo_ L))] [] _ from ?_)
  refine X.aload dX0_see_0 4 rfl ?_
  refine X.iconst (v := 0) dX0_see_2 (by decide) ?_
  refine C.aload_n dX0_see_3 rfl 0 rfl ?_
  refine X.iload_n dX0_see_4 rfl 1 rfl ?_
  refine X.iload_n dX0_see_5 rfl 2 rfl ?_
  refine X.iload_n dX0_see_6 rfl 3 rfl ?_
  refine C.Vi (As := [.int p0, .int p1, .int p2]) (rest := [.int 0, .ref (lo_ L)]) dX0_see_7 (Ct.frame hg (w_X1_see h)) cX0_68 (isO_LW hx) rfl rfl (Nat.le_of_ble_eq_true rfl) rfl rfl (xD (Nat.le_of_ble_eq_true rfl)) hd.2 xle.rf ?_
  refine X.i2l dX0_see_10 rfl ?_
  refine LR.last dX0_see_11 hn1 ?_
  refine X.goto (tgt := 19) dX0_see_12 (by decide) ?_
  refine X.iconst (v := 0) dX0_see_19 (by decide) ?_
  exact X.iret dX0_see_20 rfl rfl rfl
theorem wt_X0_see_1 {G : xG} (hg : gR G = fun _ => none) {L : xL} {S : MS} {v : Nat → Int64} {T T1 : xF} {x : Option Nat} {p0 : Int32} {p1 : Int32} {p2 : Int32} {e : Nat} (hn : NN L T) (hx : isO T x 0 = true) (h : c_X1_see (gW G (lc L S v)) x p0 p1 p2 T = some (.inr ("java/util/NoSuchElementException", e), T1)) : Ct G mX0_see 10 (LWo (lc L S v) T) [va_rf x, .int p0, .int p1, .int p2, .ref (lo_ L)] (.inl (some (.int 1))) (LWo (lc L S v) T1) := by
  have hd : xdl T T1 := c_X1_see_dm x p0 p1 p2 T _ h
  refine Ct.ofch (plainFor_of_name (by decide +kernel)) rfl (xvQ (xvI (xvI (xvI (xvQ (r := some (lo_ L)) xvN))))) (Nat.le_of_ble_eq_true rfl) (show Xr G _ 0 [(0, va_rf x), (1, .int p0), (2, .int p1), (3, .int p2), (4, .ref (lo_ L))] [] _ from ?_)
  refine X.aload dX0_see_0 4 rfl ?_
  refine X.iconst (v := 0) dX0_see_2 (by decide) ?_
  refine C.aload_n dX0_see_3 rfl 0 rfl ?_
  refine X.iload_n dX0_see_4 rfl 1 rfl ?_
  refine X.iload_n dX0_see_5 rfl 2 rfl ?_
  refine X.iload_n dX0_see_6 rfl 3 rfl ?_
  refine C.Vt (As := [.int p0, .int p1, .int p2]) (rest := [.int 0, .ref (lo_ L)]) dX0_see_7 (Ct.frame hg (w_X1_see h)) cX0_68 (isO_LW hx) rfl rfl (Nat.le_of_ble_eq_true rfl) rfl rfl (xD (Nat.le_of_ble_eq_true rfl)) hd.2 xle.rf (Xt.catchL (pre := []) (suf := []) (z := ⟨0, 12, 15, 18⟩) rfl (fun _ h => nomatch h) (by decide) (by decide) q1254 q1273 rfl (tgt := 15) rfl ?_)
  refine C.ast (L' := [(5, va_rf (some e)), (0, va_rf x), (1, .int p0), (2, .int p1), (3, .int p2), (4, .ref (lo_ L))]) dX0_see_15 (Nat.le_of_ble_eq_true rfl) (xcQ (xcI (xcI (xcI (xcQ (r := some (lo_ L)) xcN))))) rfl ?_
  refine X.iconst (v := 1) dX0_see_17 (by decide) ?_
  exact X.iret dX0_see_18 rfl rfl rfl
abbrev cX0_sow : ByteArray := method_10_code
def yX0_sow : MethodName := ⟨RX0, "sow", "(LMouldVotes;II[J)I"⟩
def dkwX0_sow_1 : List UInt8 := [3, 172]
abbrev dktX0_sow_1 : List UInt8 := dkwX0_sow_1 ++ []
def dkwX0_sow_0 : List UInt8 := [45, 3, 42, 27, 28, 182, 0, 36, 153, 0, 7, 10, 167, 0, 4, 9, 80, 167, 0, 7, 58, 4, 4, 172]
abbrev dktX0_sow_0 : List UInt8 := dkwX0_sow_0 ++ dktX0_sow_1
theorem dksX0_sow_0 : cX0_sow.data.toList.drop 0 = dktX0_sow_0 := by decide +kernel
theorem dksX0_sow_1 : cX0_sow.data.toList.drop 24 = dktX0_sow_1 := dk_seg dksX0_sow_0 24 rfl rfl
theorem dX0_sow_0 : decode cX0_sow 0 = .ok (.aload_n 3, 1) := dk_45 (dk_at dksX0_sow_0 0 rfl rfl)
theorem dX0_sow_1 : decode cX0_sow 1 = .ok (.iconst 0, 1) := dk_3 (dk_at dksX0_sow_0 1 rfl rfl)
theorem dX0_sow_2 : decode cX0_sow 2 = .ok (.aload_n 0, 1) := dk_42 (dk_at dksX0_sow_0 2 rfl rfl)
theorem dX0_sow_3 : decode cX0_sow 3 = .ok (.iload_n 1, 1) := dk_27 (dk_at dksX0_sow_0 3 rfl rfl)
theorem dX0_sow_4 : decode cX0_sow 4 = .ok (.iload_n 2, 1) := dk_28 (dk_at dksX0_sow_0 4 rfl rfl)
theorem dX0_sow_5 : decode cX0_sow 5 = .ok (.invokevirtual 36, 3) := dk_182 0 36 (dk_at dksX0_sow_0 5 rfl rfl)
theorem dX0_sow_8 : decode cX0_sow 8 = .ok (.ifCond .eq 7, 3) := dk_153 0 7 (dk_at dksX0_sow_0 8 rfl rfl)
theorem dX0_sow_11 : decode cX0_sow 11 = .ok (.lconst 1, 1) := dk_10 (dk_at dksX0_sow_0 11 rfl rfl)
theorem dX0_sow_12 : decode cX0_sow 12 = .ok (.goto 4, 3) := dk_167 0 4 (dk_at dksX0_sow_0 12 rfl rfl)
theorem dX0_sow_15 : decode cX0_sow 15 = .ok (.lconst 0, 1) := dk_9 (dk_at dksX0_sow_0 15 rfl rfl)
theorem dX0_sow_16 : decode cX0_sow 16 = .ok (.lastore, 1) := dk_80 (dk_at dksX0_sow_0 16 rfl rfl)
theorem dX0_sow_17 : decode cX0_sow 17 = .ok (.goto 7, 3) := dk_167 0 7 (dk_at dksX0_sow_0 17 rfl rfl)
theorem dX0_sow_20 : decode cX0_sow 20 = .ok (.astore 4, 2) := dk_58 4 (dk_at dksX0_sow_0 20 rfl rfl)
theorem dX0_sow_22 : decode cX0_sow 22 = .ok (.iconst 1, 1) := dk_4 (dk_at dksX0_sow_0 22 rfl rfl)
theorem dX0_sow_23 : decode cX0_sow 23 = .ok (.ireturn, 1) := dk_172 (dk_at dksX0_sow_0 23 rfl rfl)
theorem dX0_sow_24 : decode cX0_sow 24 = .ok (.iconst 0, 1) := dk_3 (dk_at dksX0_sow_1 0 rfl rfl)
theorem dX0_sow_25 : decode cX0_sow 25 = .ok (.ireturn, 1) := dk_172 (dk_at dksX0_sow_1 1 rfl rfl)
abbrev mX0_sow : xM := (yX0_sow, cX0_sow, 5, some .int, [(0, 17, 20, 18)])
theorem cX0_36 : xCV RX0 36 mX1_sow 2 := ⟨lw_V q1344 q1345 q1346 q121 q1347, rfl, ⟨by decide +kernel, by decide +kernel, by decide +kernel⟩, Nat.le_of_ble_eq_true rfl⟩
theorem wl_X0_sow {G : xG} (hg : gR G = fun _ => none) {L : xL} {S : MS} {v : Nat → Int64} {T T1 : xF} {x : Option Nat} {p0 : Int32} {p1 : Int32} {r : Int32} (hn : NN L T) (hx : isO T x 0 = true) (h : c_X1_sow (gW G (lc L S v)) x p0 p1 T = some (.inl r, T1)) : Ct G mX0_sow 10 (LWo (lc L S v) T) [va_rf x, .int p0, .int p1, .ref (lo_ L)] (.inl (some (.int 0))) (LWo (lc L S (vp_updL v 0 (if r = 0 then 0 else 1))) T1) := by
  have hd : xdl T T1 := c_X1_sow_dm x p0 p1 T _ h
  have hn1 := hn.dm hd
  refine Ct.ofch (plainFor_of_name (by decide +kernel)) rfl (xvQ (xvI (xvI (xvQ (r := some (lo_ L)) xvN)))) (Nat.le_of_ble_eq_true rfl) (show Xr G _ 0 [(0, va_rf x), (1, .int p0), (2, .int p1), (3, .ref (lo_ L))] [] _ from ?_)
  refine X.aload_n dX0_sow_0 rfl 3 rfl ?_
  refine X.iconst (v := 0) dX0_sow_1 (by decide) ?_
  refine C.aload_n dX0_sow_2 rfl 0 rfl ?_
  refine X.iload_n dX0_sow_3 rfl 1 rfl ?_
  refine X.iload_n dX0_sow_4 rfl 2 rfl ?_
  refine C.Vi (As := [.int p0, .int p1]) (rest := [.int 0, .ref (lo_ L)]) dX0_sow_5 (Ct.frame hg (w_X1_sow h)) cX0_36 (isO_LW hx) rfl rfl (Nat.le_of_ble_eq_true rfl) rfl rfl (xD (Nat.le_of_ble_eq_true rfl)) hd.2 xle.rf ?_
  refine X.if_eq (tgt := 15) dX0_sow_8 (by decide) (fun c => ?_) (fun c => ?_)
  · rw [if_pos c]
    refine X.lconst (v := 0) dX0_sow_15 (by decide) ?_
    refine LR.last dX0_sow_16 hn1 ?_
    refine X.goto (tgt := 24) dX0_sow_17 (by decide) ?_
    refine X.iconst (v := 0) dX0_sow_24 (by decide) ?_
    exact X.iret dX0_sow_25 rfl rfl rfl
  · rw [if_neg c]
    refine X.lconst (v := 1) dX0_sow_11 (by decide) ?_
    refine X.goto (tgt := 16) dX0_sow_12 (by decide) ?_
    refine LR.last dX0_sow_16 hn1 ?_
    refine X.goto (tgt := 24) dX0_sow_17 (by decide) ?_
    refine X.iconst (v := 0) dX0_sow_24 (by decide) ?_
    exact X.iret dX0_sow_25 rfl rfl rfl
theorem wt_X0_sow_1 {G : xG} (hg : gR G = fun _ => none) {L : xL} {S : MS} {v : Nat → Int64} {T T1 : xF} {x : Option Nat} {p0 : Int32} {p1 : Int32} {e : Nat} (hn : NN L T) (hx : isO T x 0 = true) (h : c_X1_sow (gW G (lc L S v)) x p0 p1 T = some (.inr ("java/util/NoSuchElementException", e), T1)) : Ct G mX0_sow 10 (LWo (lc L S v) T) [va_rf x, .int p0, .int p1, .ref (lo_ L)] (.inl (some (.int 1))) (LWo (lc L S v) T1) := by
  have hd : xdl T T1 := c_X1_sow_dm x p0 p1 T _ h
  refine Ct.ofch (plainFor_of_name (by decide +kernel)) rfl (xvQ (xvI (xvI (xvQ (r := some (lo_ L)) xvN)))) (Nat.le_of_ble_eq_true rfl) (show Xr G _ 0 [(0, va_rf x), (1, .int p0), (2, .int p1), (3, .ref (lo_ L))] [] _ from ?_)
  refine X.aload_n dX0_sow_0 rfl 3 rfl ?_
  refine X.iconst (v := 0) dX0_sow_1 (by decide) ?_
  refine C.aload_n dX0_sow_2 rfl 0 rfl ?_
  refine X.iload_n dX0_sow_3 rfl 1 rfl ?_
  refine X.iload_n dX0_sow_4 rfl 2 rfl ?_
  refine C.Vt (As := [.int p0, .int p1]) (rest := [.int 0, .ref (lo_ L)]) dX0_sow_5 (Ct.frame hg (w_X1_sow h)) cX0_36 (isO_LW hx) rfl rfl (Nat.le_of_ble_eq_true rfl) rfl rfl (xD (Nat.le_of_ble_eq_true rfl)) hd.2 xle.rf (Xt.catchL (pre := []) (suf := []) (z := ⟨0, 17, 20, 18⟩) rfl (fun _ h => nomatch h) (by decide) (by decide) q1254 q1273 rfl (tgt := 20) rfl ?_)
  refine C.ast (L' := [(4, va_rf (some e)), (0, va_rf x), (1, .int p0), (2, .int p1), (3, .ref (lo_ L))]) dX0_sow_20 (Nat.le_of_ble_eq_true rfl) (xcQ (xcI (xcI (xcQ (r := some (lo_ L)) xcN)))) rfl ?_
  refine X.iconst (v := 1) dX0_sow_22 (by decide) ?_
  exact X.iret dX0_sow_23 rfl rfl rfl
abbrev cX0_sown : ByteArray := method_21_code
def yX0_sown : MethodName := ⟨RX0, "sown", "(LMouldVotes;I[J)I"⟩
def dkwX0_sown_0 : List UInt8 := [44, 3, 42, 27, 182, 0, 71, 133, 80, 167, 0, 6, 78, 4, 172, 3, 172]
abbrev dktX0_sown_0 : List UInt8 := dkwX0_sown_0 ++ []
theorem dksX0_sown_0 : cX0_sown.data.toList.drop 0 = dktX0_sown_0 := by decide +kernel
theorem dX0_sown_0 : decode cX0_sown 0 = .ok (.aload_n 2, 1) := dk_44 (dk_at dksX0_sown_0 0 rfl rfl)
theorem dX0_sown_1 : decode cX0_sown 1 = .ok (.iconst 0, 1) := dk_3 (dk_at dksX0_sown_0 1 rfl rfl)
theorem dX0_sown_2 : decode cX0_sown 2 = .ok (.aload_n 0, 1) := dk_42 (dk_at dksX0_sown_0 2 rfl rfl)
theorem dX0_sown_3 : decode cX0_sown 3 = .ok (.iload_n 1, 1) := dk_27 (dk_at dksX0_sown_0 3 rfl rfl)
theorem dX0_sown_4 : decode cX0_sown 4 = .ok (.invokevirtual 71, 3) := dk_182 0 71 (dk_at dksX0_sown_0 4 rfl rfl)
theorem dX0_sown_7 : decode cX0_sown 7 = .ok (.i2l, 1) := dk_133 (dk_at dksX0_sown_0 7 rfl rfl)
theorem dX0_sown_8 : decode cX0_sown 8 = .ok (.lastore, 1) := dk_80 (dk_at dksX0_sown_0 8 rfl rfl)
theorem dX0_sown_9 : decode cX0_sown 9 = .ok (.goto 6, 3) := dk_167 0 6 (dk_at dksX0_sown_0 9 rfl rfl)
theorem dX0_sown_12 : decode cX0_sown 12 = .ok (.astore_n 3, 1) := dk_78 (dk_at dksX0_sown_0 12 rfl rfl)
theorem dX0_sown_13 : decode cX0_sown 13 = .ok (.iconst 1, 1) := dk_4 (dk_at dksX0_sown_0 13 rfl rfl)
theorem dX0_sown_14 : decode cX0_sown 14 = .ok (.ireturn, 1) := dk_172 (dk_at dksX0_sown_0 14 rfl rfl)
theorem dX0_sown_15 : decode cX0_sown 15 = .ok (.iconst 0, 1) := dk_3 (dk_at dksX0_sown_0 15 rfl rfl)
theorem dX0_sown_16 : decode cX0_sown 16 = .ok (.ireturn, 1) := dk_172 (dk_at dksX0_sown_0 16 rfl rfl)
abbrev mX0_sown : xM := (yX0_sown, cX0_sown, 4, some .int, [(0, 9, 12, 18)])
theorem cX0_71 : xCV RX0 71 mX1_sown 1 := ⟨lw_V q1430 q1431 q1432 q121 q1433, rfl, ⟨by decide +kernel, by decide +kernel, by decide +kernel⟩, Nat.le_of_ble_eq_true rfl⟩
theorem wl_X0_sown {G : xG} (hg : gR G = fun _ => none) {L : xL} {S : MS} {v : Nat → Int64} {T T1 : xF} {x : Option Nat} {p0 : Int32} {r : Int32} (hn : NN L T) (hx : isO T x 0 = true) (h : c_X1_sown (gW G (lc L S v)) x p0 T = some (.inl r, T1)) : Ct G mX0_sown 128 (LWo (lc L S v) T) [va_rf x, .int p0, .ref (lo_ L)] (.inl (some (.int 0))) (LWo (lc L S (vp_updL v 0 r.toInt64)) T1) := by
  have hd : xdl T T1 := c_X1_sown_dm x p0 T _ h
  have hn1 := hn.dm hd
  refine Ct.ofch (plainFor_of_name (by decide +kernel)) rfl (xvQ (xvI (xvQ (r := some (lo_ L)) xvN))) (Nat.le_of_ble_eq_true rfl) (show Xr G _ 0 [(0, va_rf x), (1, .int p0), (2, .ref (lo_ L))] [] _ from ?_)
  refine X.aload_n dX0_sown_0 rfl 2 rfl ?_
  refine X.iconst (v := 0) dX0_sown_1 (by decide) ?_
  refine C.aload_n dX0_sown_2 rfl 0 rfl ?_
  refine X.iload_n dX0_sown_3 rfl 1 rfl ?_
  refine C.Vi (As := [.int p0]) (rest := [.int 0, .ref (lo_ L)]) dX0_sown_4 (Ct.frame hg (w_X1_sown h)) cX0_71 (isO_LW hx) rfl rfl (Nat.le_of_ble_eq_true rfl) rfl rfl (xD (Nat.le_of_ble_eq_true rfl)) hd.2 xle.rf ?_
  refine X.i2l dX0_sown_7 rfl ?_
  refine LR.last dX0_sown_8 hn1 ?_
  refine X.goto (tgt := 15) dX0_sown_9 (by decide) ?_
  refine X.iconst (v := 0) dX0_sown_15 (by decide) ?_
  exact X.iret dX0_sown_16 rfl rfl rfl
theorem wt_X0_sown_1 {G : xG} (hg : gR G = fun _ => none) {L : xL} {S : MS} {v : Nat → Int64} {T T1 : xF} {x : Option Nat} {p0 : Int32} {e : Nat} (hn : NN L T) (hx : isO T x 0 = true) (h : c_X1_sown (gW G (lc L S v)) x p0 T = some (.inr ("java/util/NoSuchElementException", e), T1)) : Ct G mX0_sown 128 (LWo (lc L S v) T) [va_rf x, .int p0, .ref (lo_ L)] (.inl (some (.int 1))) (LWo (lc L S v) T1) := by
  have hd : xdl T T1 := c_X1_sown_dm x p0 T _ h
  refine Ct.ofch (plainFor_of_name (by decide +kernel)) rfl (xvQ (xvI (xvQ (r := some (lo_ L)) xvN))) (Nat.le_of_ble_eq_true rfl) (show Xr G _ 0 [(0, va_rf x), (1, .int p0), (2, .ref (lo_ L))] [] _ from ?_)
  refine X.aload_n dX0_sown_0 rfl 2 rfl ?_
  refine X.iconst (v := 0) dX0_sown_1 (by decide) ?_
  refine C.aload_n dX0_sown_2 rfl 0 rfl ?_
  refine X.iload_n dX0_sown_3 rfl 1 rfl ?_
  refine C.Vt (As := [.int p0]) (rest := [.int 0, .ref (lo_ L)]) dX0_sown_4 (Ct.frame hg (w_X1_sown h)) cX0_71 (isO_LW hx) rfl rfl (Nat.le_of_ble_eq_true rfl) rfl rfl (xD (Nat.le_of_ble_eq_true rfl)) hd.2 xle.rf (Xt.catchL (pre := []) (suf := []) (z := ⟨0, 9, 12, 18⟩) rfl (fun _ h => nomatch h) (by decide) (by decide) q1254 q1273 rfl (tgt := 12) rfl ?_)
  refine C.ast_n (L' := [(3, va_rf (some e)), (0, va_rf x), (1, .int p0), (2, .ref (lo_ L))]) dX0_sown_12 rfl (Nat.le_of_ble_eq_true rfl) (xcQ (xcI (xcQ (r := some (lo_ L)) xcN))) rfl ?_
  refine X.iconst (v := 1) dX0_sown_13 (by decide) ?_
  exact X.iret dX0_sown_14 rfl rfl rfl
abbrev cX0_starved : ByteArray := method_28_code
def yX0_starved : MethodName := ⟨RX0, "starved", "(LMouldVotes;I[J)I"⟩
def dkwX0_starved_0 : List UInt8 := [44, 3, 42, 27, 182, 0, 92, 133, 80, 167, 0, 6, 78, 4, 172, 3, 172]
abbrev dktX0_starved_0 : List UInt8 := dkwX0_starved_0 ++ []
theorem dksX0_starved_0 : cX0_starved.data.toList.drop 0 = dktX0_starved_0 := by decide +kernel
theorem dX0_starved_0 : decode cX0_starved 0 = .ok (.aload_n 2, 1) := dk_44 (dk_at dksX0_starved_0 0 rfl rfl)
theorem dX0_starved_1 : decode cX0_starved 1 = .ok (.iconst 0, 1) := dk_3 (dk_at dksX0_starved_0 1 rfl rfl)
theorem dX0_starved_2 : decode cX0_starved 2 = .ok (.aload_n 0, 1) := dk_42 (dk_at dksX0_starved_0 2 rfl rfl)
theorem dX0_starved_3 : decode cX0_starved 3 = .ok (.iload_n 1, 1) := dk_27 (dk_at dksX0_starved_0 3 rfl rfl)
theorem dX0_starved_4 : decode cX0_starved 4 = .ok (.invokevirtual 92, 3) := dk_182 0 92 (dk_at dksX0_starved_0 4 rfl rfl)
theorem dX0_starved_7 : decode cX0_starved 7 = .ok (.i2l, 1) := dk_133 (dk_at dksX0_starved_0 7 rfl rfl)
theorem dX0_starved_8 : decode cX0_starved 8 = .ok (.lastore, 1) := dk_80 (dk_at dksX0_starved_0 8 rfl rfl)
theorem dX0_starved_9 : decode cX0_starved 9 = .ok (.goto 6, 3) := dk_167 0 6 (dk_at dksX0_starved_0 9 rfl rfl)
theorem dX0_starved_12 : decode cX0_starved 12 = .ok (.astore_n 3, 1) := dk_78 (dk_at dksX0_starved_0 12 rfl rfl)
theorem dX0_starved_13 : decode cX0_starved 13 = .ok (.iconst 1, 1) := dk_4 (dk_at dksX0_starved_0 13 rfl rfl)
theorem dX0_starved_14 : decode cX0_starved 14 = .ok (.ireturn, 1) := dk_172 (dk_at dksX0_starved_0 14 rfl rfl)
theorem dX0_starved_15 : decode cX0_starved 15 = .ok (.iconst 0, 1) := dk_3 (dk_at dksX0_starved_0 15 rfl rfl)
theorem dX0_starved_16 : decode cX0_starved 16 = .ok (.ireturn, 1) := dk_172 (dk_at dksX0_starved_0 16 rfl rfl)
abbrev mX0_starved : xM := (yX0_starved, cX0_starved, 4, some .int, [(0, 9, 12, 13)])
theorem cX0_92 : xCV RX0 92 mX1_starved 1 := ⟨lw_V q1510 q1511 q1512 q121 q1513, rfl, ⟨by decide +kernel, by decide +kernel, by decide +kernel⟩, Nat.le_of_ble_eq_true rfl⟩
theorem wl_X0_starved {G : xG} (hg : gR G = fun _ => none) {L : xL} {S : MS} {v : Nat → Int64} {T T1 : xF} {x : Option Nat} {p0 : Int32} {r : Int32} (hn : NN L T) (hx : isO T x 0 = true) (h : c_X1_starved (gW G (lc L S v)) x p0 T = some (.inl r, T1)) : Ct G mX0_starved 128 (LWo (lc L S v) T) [va_rf x, .int p0, .ref (lo_ L)] (.inl (some (.int 0))) (LWo (lc L S (vp_updL v 0 r.toInt64)) T1) := by
  have hd : xdl T T1 := c_X1_starved_dm x p0 T _ h
  have hn1 := hn.dm hd
  refine Ct.ofch (plainFor_of_name (by decide +kernel)) rfl (xvQ (xvI (xvQ (r := some (lo_ L)) xvN))) (Nat.le_of_ble_eq_true rfl) (show Xr G _ 0 [(0, va_rf x), (1, .int p0), (2, .ref (lo_ L))] [] _ from ?_)
  refine X.aload_n dX0_starved_0 rfl 2 rfl ?_
  refine X.iconst (v := 0) dX0_starved_1 (by decide) ?_
  refine C.aload_n dX0_starved_2 rfl 0 rfl ?_
  refine X.iload_n dX0_starved_3 rfl 1 rfl ?_
  refine C.Vi (As := [.int p0]) (rest := [.int 0, .ref (lo_ L)]) dX0_starved_4 (Ct.frame hg (w_X1_starved h)) cX0_92 (isO_LW hx) rfl rfl (Nat.le_of_ble_eq_true rfl) rfl rfl (xD (Nat.le_of_ble_eq_true rfl)) hd.2 xle.rf ?_
  refine X.i2l dX0_starved_7 rfl ?_
  refine LR.last dX0_starved_8 hn1 ?_
  refine X.goto (tgt := 15) dX0_starved_9 (by decide) ?_
  refine X.iconst (v := 0) dX0_starved_15 (by decide) ?_
  exact X.iret dX0_starved_16 rfl rfl rfl
theorem wt_X0_starved_1 {G : xG} (hg : gR G = fun _ => none) {L : xL} {S : MS} {v : Nat → Int64} {T T1 : xF} {x : Option Nat} {p0 : Int32} {e : Nat} (hn : NN L T) (hx : isO T x 0 = true) (h : c_X1_starved (gW G (lc L S v)) x p0 T = some (.inr ("java/lang/IllegalArgumentException", e), T1)) : Ct G mX0_starved 128 (LWo (lc L S v) T) [va_rf x, .int p0, .ref (lo_ L)] (.inl (some (.int 1))) (LWo (lc L S v) T1) := by
  have hd : xdl T T1 := c_X1_starved_dm x p0 T _ h
  refine Ct.ofch (plainFor_of_name (by decide +kernel)) rfl (xvQ (xvI (xvQ (r := some (lo_ L)) xvN))) (Nat.le_of_ble_eq_true rfl) (show Xr G _ 0 [(0, va_rf x), (1, .int p0), (2, .ref (lo_ L))] [] _ from ?_)
  refine X.aload_n dX0_starved_0 rfl 2 rfl ?_
  refine X.iconst (v := 0) dX0_starved_1 (by decide) ?_
  refine C.aload_n dX0_starved_2 rfl 0 rfl ?_
  refine X.iload_n dX0_starved_3 rfl 1 rfl ?_
  refine C.Vt (As := [.int p0]) (rest := [.int 0, .ref (lo_ L)]) dX0_starved_4 (Ct.frame hg (w_X1_starved h)) cX0_92 (isO_LW hx) rfl rfl (Nat.le_of_ble_eq_true rfl) rfl rfl (xD (Nat.le_of_ble_eq_true rfl)) hd.2 xle.rf (Xt.catchL (pre := []) (suf := []) (z := ⟨0, 9, 12, 13⟩) rfl (fun _ h => nomatch h) (by decide) (by decide) q733 q744 rfl (tgt := 12) rfl ?_)
  refine C.ast_n (L' := [(3, va_rf (some e)), (0, va_rf x), (1, .int p0), (2, .ref (lo_ L))]) dX0_starved_12 rfl (Nat.le_of_ble_eq_true rfl) (xcQ (xcI (xcQ (r := some (lo_ L)) xcN))) rfl ?_
  refine X.iconst (v := 1) dX0_starved_13 (by decide) ?_
  exact X.iret dX0_starved_14 rfl rfl rfl
abbrev cX0_then : ByteArray := method_12_code
def yX0_then : MethodName := ⟨RX0, "then", "(LMouldVotes;III[J)I"⟩
def dkwX0_then_1 : List UInt8 := [172]
abbrev dktX0_then_1 : List UInt8 := dkwX0_then_1 ++ []
def dkwX0_then_0 : List UInt8 := [25, 4, 3, 42, 27, 28, 29, 182, 0, 43, 133, 80, 167, 0, 11, 58, 5, 4, 172, 58, 5, 5, 172, 3]
abbrev dktX0_then_0 : List UInt8 := dkwX0_then_0 ++ dktX0_then_1
theorem dksX0_then_0 : cX0_then.data.toList.drop 0 = dktX0_then_0 := by decide +kernel
theorem dksX0_then_1 : cX0_then.data.toList.drop 24 = dktX0_then_1 := dk_seg dksX0_then_0 24 rfl rfl
theorem dX0_then_0 : decode cX0_then 0 = .ok (.aload 4, 2) := dk_25 4 (dk_at dksX0_then_0 0 rfl rfl)
theorem dX0_then_2 : decode cX0_then 2 = .ok (.iconst 0, 1) := dk_3 (dk_at dksX0_then_0 2 rfl rfl)
theorem dX0_then_3 : decode cX0_then 3 = .ok (.aload_n 0, 1) := dk_42 (dk_at dksX0_then_0 3 rfl rfl)
theorem dX0_then_4 : decode cX0_then 4 = .ok (.iload_n 1, 1) := dk_27 (dk_at dksX0_then_0 4 rfl rfl)
theorem dX0_then_5 : decode cX0_then 5 = .ok (.iload_n 2, 1) := dk_28 (dk_at dksX0_then_0 5 rfl rfl)
theorem dX0_then_6 : decode cX0_then 6 = .ok (.iload_n 3, 1) := dk_29 (dk_at dksX0_then_0 6 rfl rfl)
theorem dX0_then_7 : decode cX0_then 7 = .ok (.invokevirtual 43, 3) := dk_182 0 43 (dk_at dksX0_then_0 7 rfl rfl)
theorem dX0_then_10 : decode cX0_then 10 = .ok (.i2l, 1) := dk_133 (dk_at dksX0_then_0 10 rfl rfl)
theorem dX0_then_11 : decode cX0_then 11 = .ok (.lastore, 1) := dk_80 (dk_at dksX0_then_0 11 rfl rfl)
theorem dX0_then_12 : decode cX0_then 12 = .ok (.goto 11, 3) := dk_167 0 11 (dk_at dksX0_then_0 12 rfl rfl)
theorem dX0_then_15 : decode cX0_then 15 = .ok (.astore 5, 2) := dk_58 5 (dk_at dksX0_then_0 15 rfl rfl)
theorem dX0_then_17 : decode cX0_then 17 = .ok (.iconst 1, 1) := dk_4 (dk_at dksX0_then_0 17 rfl rfl)
theorem dX0_then_18 : decode cX0_then 18 = .ok (.ireturn, 1) := dk_172 (dk_at dksX0_then_0 18 rfl rfl)
theorem dX0_then_19 : decode cX0_then 19 = .ok (.astore 5, 2) := dk_58 5 (dk_at dksX0_then_0 19 rfl rfl)
theorem dX0_then_21 : decode cX0_then 21 = .ok (.iconst 2, 1) := dk_5 (dk_at dksX0_then_0 21 rfl rfl)
theorem dX0_then_22 : decode cX0_then 22 = .ok (.ireturn, 1) := dk_172 (dk_at dksX0_then_0 22 rfl rfl)
theorem dX0_then_23 : decode cX0_then 23 = .ok (.iconst 0, 1) := dk_3 (dk_at dksX0_then_0 23 rfl rfl)
theorem dX0_then_24 : decode cX0_then 24 = .ok (.ireturn, 1) := dk_172 (dk_at dksX0_then_1 0 rfl rfl)
abbrev mX0_then : xM := (yX0_then, cX0_then, 6, some .int, [(0, 12, 15, 18), (0, 12, 19, 13)])
theorem cX0_43 : xCV RX0 43 mX1_then 3 := ⟨lw_V q1359 q1360 q1361 q121 q1362, rfl, ⟨by decide +kernel, by decide +kernel, by decide +kernel⟩, Nat.le_of_ble_eq_true rfl⟩
theorem wl_X0_then {G : xG} (hg : gR G = fun _ => none) {L : xL} {S : MS} {v : Nat → Int64} {T T1 : xF} {x : Option Nat} {p0 : Int32} {p1 : Int32} {p2 : Int32} {r : Int32} (hn : NN L T) (hx : isO T x 0 = true) (h : c_X1_then (gW G (lc L S v)) x p0 p1 p2 T = some (.inl r, T1)) : Ct G mX0_then 128 (LWo (lc L S v) T) [va_rf x, .int p0, .int p1, .int p2, .ref (lo_ L)] (.inl (some (.int 0))) (LWo (lc L S (vp_updL v 0 r.toInt64)) T1) := by
  have hd : xdl T T1 := c_X1_then_dm x p0 p1 p2 T _ h
  have hn1 := hn.dm hd
  refine Ct.ofch (plainFor_of_name (by decide +kernel)) rfl (xvQ (xvI (xvI (xvI (xvQ (r := some (lo_ L)) xvN))))) (Nat.le_of_ble_eq_true rfl) (show Xr G _ 0 [(0, va_rf x), (1, .int p0), (2, .int p1), (3, .int p2), (4, .ref (lo_ L))] [] _ from ?_)
  refine X.aload dX0_then_0 4 rfl ?_
  refine X.iconst (v := 0) dX0_then_2 (by decide) ?_
  refine C.aload_n dX0_then_3 rfl 0 rfl ?_
  refine X.iload_n dX0_then_4 rfl 1 rfl ?_
  refine X.iload_n dX0_then_5 rfl 2 rfl ?_
  refine X.iload_n dX0_then_6 rfl 3 rfl ?_
  refine C.Vi (As := [.int p0, .int p1, .int p2]) (rest := [.int 0, .ref (lo_ L)]) dX0_then_7 (Ct.frame hg (w_X1_then h)) cX0_43 (isO_LW hx) rfl rfl (Nat.le_of_ble_eq_true rfl) rfl rfl (xD (Nat.le_of_ble_eq_true rfl)) hd.2 xle.rf ?_
  refine X.i2l dX0_then_10 rfl ?_
  refine LR.last dX0_then_11 hn1 ?_
  refine X.goto (tgt := 23) dX0_then_12 (by decide) ?_
  refine X.iconst (v := 0) dX0_then_23 (by decide) ?_
  exact X.iret dX0_then_24 rfl rfl rfl
theorem wt_X0_then_1 {G : xG} (hg : gR G = fun _ => none) {L : xL} {S : MS} {v : Nat → Int64} {T T1 : xF} {x : Option Nat} {p0 : Int32} {p1 : Int32} {p2 : Int32} {e : Nat} (hn : NN L T) (hx : isO T x 0 = true) (h : c_X1_then (gW G (lc L S v)) x p0 p1 p2 T = some (.inr ("java/util/NoSuchElementException", e), T1)) : Ct G mX0_then 128 (LWo (lc L S v) T) [va_rf x, .int p0, .int p1, .int p2, .ref (lo_ L)] (.inl (some (.int 1))) (LWo (lc L S v) T1) := by
  have hd : xdl T T1 := c_X1_then_dm x p0 p1 p2 T _ h
  refine Ct.ofch (plainFor_of_name (by decide +kernel)) rfl (xvQ (xvI (xvI (xvI (xvQ (r := some (lo_ L)) xvN))))) (Nat.le_of_ble_eq_true rfl) (show Xr G _ 0 [(0, va_rf x), (1, .int p0), (2, .int p1), (3, .int p2), (4, .ref (lo_ L))] [] _ from ?_)
  refine X.aload dX0_then_0 4 rfl ?_
  refine X.iconst (v := 0) dX0_then_2 (by decide) ?_
  refine C.aload_n dX0_then_3 rfl 0 rfl ?_
  refine X.iload_n dX0_then_4 rfl 1 rfl ?_
  refine X.iload_n dX0_then_5 rfl 2 rfl ?_
  refine X.iload_n dX0_then_6 rfl 3 rfl ?_
  refine C.Vt (As := [.int p0, .int p1, .int p2]) (rest := [.int 0, .ref (lo_ L)]) dX0_then_7 (Ct.frame hg (w_X1_then h)) cX0_43 (isO_LW hx) rfl rfl (Nat.le_of_ble_eq_true rfl) rfl rfl (xD (Nat.le_of_ble_eq_true rfl)) hd.2 xle.rf (Xt.catchL (pre := []) (suf := [⟨0, 12, 19, 13⟩]) (z := ⟨0, 12, 15, 18⟩) rfl (fun _ h => nomatch h) (by decide) (by decide) q1254 q1273 rfl (tgt := 15) rfl ?_)
  refine C.ast (L' := [(5, va_rf (some e)), (0, va_rf x), (1, .int p0), (2, .int p1), (3, .int p2), (4, .ref (lo_ L))]) dX0_then_15 (Nat.le_of_ble_eq_true rfl) (xcQ (xcI (xcI (xcI (xcQ (r := some (lo_ L)) xcN))))) rfl ?_
  refine X.iconst (v := 1) dX0_then_17 (by decide) ?_
  exact X.iret dX0_then_18 rfl rfl rfl
theorem wt_X0_then_2 {G : xG} (hg : gR G = fun _ => none) {L : xL} {S : MS} {v : Nat → Int64} {T T1 : xF} {x : Option Nat} {p0 : Int32} {p1 : Int32} {p2 : Int32} {e : Nat} (hn : NN L T) (hx : isO T x 0 = true) (h : c_X1_then (gW G (lc L S v)) x p0 p1 p2 T = some (.inr ("java/lang/IllegalArgumentException", e), T1)) : Ct G mX0_then 128 (LWo (lc L S v) T) [va_rf x, .int p0, .int p1, .int p2, .ref (lo_ L)] (.inl (some (.int 2))) (LWo (lc L S v) T1) := by
  have hd : xdl T T1 := c_X1_then_dm x p0 p1 p2 T _ h
  refine Ct.ofch (plainFor_of_name (by decide +kernel)) rfl (xvQ (xvI (xvI (xvI (xvQ (r := some (lo_ L)) xvN))))) (Nat.le_of_ble_eq_true rfl) (show Xr G _ 0 [(0, va_rf x), (1, .int p0), (2, .int p1), (3, .int p2), (4, .ref (lo_ L))] [] _ from ?_)
  refine X.aload dX0_then_0 4 rfl ?_
  refine X.iconst (v := 0) dX0_then_2 (by decide) ?_
  refine C.aload_n dX0_then_3 rfl 0 rfl ?_
  refine X.iload_n dX0_then_4 rfl 1 rfl ?_
  refine X.iload_n dX0_then_5 rfl 2 rfl ?_
  refine X.iload_n dX0_then_6 rfl 3 rfl ?_
  refine C.Vt (As := [.int p0, .int p1, .int p2]) (rest := [.int 0, .ref (lo_ L)]) dX0_then_7 (Ct.frame hg (w_X1_then h)) cX0_43 (isO_LW hx) rfl rfl (Nat.le_of_ble_eq_true rfl) rfl rfl (xD (Nat.le_of_ble_eq_true rfl)) hd.2 xle.rf (Xt.catchL (pre := [⟨0, 12, 15, 18⟩]) (suf := []) (z := ⟨0, 12, 19, 13⟩) rfl (fun y hy => by rw [List.mem_singleton.mp hy]; exact ⟨by decide, q1254, rfl⟩) (by decide) (by decide) q733 q744 rfl (tgt := 19) rfl ?_)
  refine C.ast (L' := [(5, va_rf (some e)), (0, va_rf x), (1, .int p0), (2, .int p1), (3, .int p2), (4, .ref (lo_ L))]) dX0_then_19 (Nat.le_of_ble_eq_true rfl) (xcQ (xcI (xcI (xcI (xcQ (r := some (lo_ L)) xcN))))) rfl ?_
  refine X.iconst (v := 2) dX0_then_21 (by decide) ?_
  exact X.iret dX0_then_22 rfl rfl rfl
abbrev cX0_votes : ByteArray := method_7_code
def yX0_votes : MethodName := ⟨RX0, "votes", "(LMouldVotes;I[J)I"⟩
def dkwX0_votes_0 : List UInt8 := [44, 3, 42, 27, 182, 0, 27, 133, 80, 167, 0, 6, 78, 4, 172, 3, 172]
abbrev dktX0_votes_0 : List UInt8 := dkwX0_votes_0 ++ []
theorem dksX0_votes_0 : cX0_votes.data.toList.drop 0 = dktX0_votes_0 := by decide +kernel
theorem dX0_votes_0 : decode cX0_votes 0 = .ok (.aload_n 2, 1) := dk_44 (dk_at dksX0_votes_0 0 rfl rfl)
theorem dX0_votes_1 : decode cX0_votes 1 = .ok (.iconst 0, 1) := dk_3 (dk_at dksX0_votes_0 1 rfl rfl)
theorem dX0_votes_2 : decode cX0_votes 2 = .ok (.aload_n 0, 1) := dk_42 (dk_at dksX0_votes_0 2 rfl rfl)
theorem dX0_votes_3 : decode cX0_votes 3 = .ok (.iload_n 1, 1) := dk_27 (dk_at dksX0_votes_0 3 rfl rfl)
theorem dX0_votes_4 : decode cX0_votes 4 = .ok (.invokevirtual 27, 3) := dk_182 0 27 (dk_at dksX0_votes_0 4 rfl rfl)
theorem dX0_votes_7 : decode cX0_votes 7 = .ok (.i2l, 1) := dk_133 (dk_at dksX0_votes_0 7 rfl rfl)
theorem dX0_votes_8 : decode cX0_votes 8 = .ok (.lastore, 1) := dk_80 (dk_at dksX0_votes_0 8 rfl rfl)
theorem dX0_votes_9 : decode cX0_votes 9 = .ok (.goto 6, 3) := dk_167 0 6 (dk_at dksX0_votes_0 9 rfl rfl)
theorem dX0_votes_12 : decode cX0_votes 12 = .ok (.astore_n 3, 1) := dk_78 (dk_at dksX0_votes_0 12 rfl rfl)
theorem dX0_votes_13 : decode cX0_votes 13 = .ok (.iconst 1, 1) := dk_4 (dk_at dksX0_votes_0 13 rfl rfl)
theorem dX0_votes_14 : decode cX0_votes 14 = .ok (.ireturn, 1) := dk_172 (dk_at dksX0_votes_0 14 rfl rfl)
theorem dX0_votes_15 : decode cX0_votes 15 = .ok (.iconst 0, 1) := dk_3 (dk_at dksX0_votes_0 15 rfl rfl)
theorem dX0_votes_16 : decode cX0_votes 16 = .ok (.ireturn, 1) := dk_172 (dk_at dksX0_votes_0 16 rfl rfl)
abbrev mX0_votes : xM := (yX0_votes, cX0_votes, 4, some .int, [(0, 9, 12, 18)])
theorem cX0_27 : xCV RX0 27 mX1_votes 1 := ⟨lw_V q1315 q1316 q1317 q121 q1318, rfl, ⟨by decide +kernel, by decide +kernel, by decide +kernel⟩, Nat.le_of_ble_eq_true rfl⟩
theorem wl_X0_votes {G : xG} (hg : gR G = fun _ => none) {L : xL} {S : MS} {v : Nat → Int64} {T T1 : xF} {x : Option Nat} {p0 : Int32} {r : Int32} (hn : NN L T) (hx : isO T x 0 = true) (h : c_X1_votes x p0 T = some (.inl r, T1)) : Ct G mX0_votes 11 (LWo (lc L S v) T) [va_rf x, .int p0, .ref (lo_ L)] (.inl (some (.int 0))) (LWo (lc L S (vp_updL v 0 r.toInt64)) T1) := by
  have hd : xdl T T1 := c_X1_votes_dm x p0 T _ h
  have hn1 := hn.dm hd
  refine Ct.ofch (plainFor_of_name (by decide +kernel)) rfl (xvQ (xvI (xvQ (r := some (lo_ L)) xvN))) (Nat.le_of_ble_eq_true rfl) (show Xr G _ 0 [(0, va_rf x), (1, .int p0), (2, .ref (lo_ L))] [] _ from ?_)
  refine X.aload_n dX0_votes_0 rfl 2 rfl ?_
  refine X.iconst (v := 0) dX0_votes_1 (by decide) ?_
  refine C.aload_n dX0_votes_2 rfl 0 rfl ?_
  refine X.iload_n dX0_votes_3 rfl 1 rfl ?_
  refine C.Vi (As := [.int p0]) (rest := [.int 0, .ref (lo_ L)]) dX0_votes_4 (Ct.frame hg (w_X1_votes h)) cX0_27 (isO_LW hx) rfl rfl (Nat.le_of_ble_eq_true rfl) rfl rfl (xD (Nat.le_of_ble_eq_true rfl)) hd.2 xle.rf ?_
  refine X.i2l dX0_votes_7 rfl ?_
  refine LR.last dX0_votes_8 hn1 ?_
  refine X.goto (tgt := 15) dX0_votes_9 (by decide) ?_
  refine X.iconst (v := 0) dX0_votes_15 (by decide) ?_
  exact X.iret dX0_votes_16 rfl rfl rfl
theorem wt_X0_votes_1 {G : xG} (hg : gR G = fun _ => none) {L : xL} {S : MS} {v : Nat → Int64} {T T1 : xF} {x : Option Nat} {p0 : Int32} {e : Nat} (hn : NN L T) (hx : isO T x 0 = true) (h : c_X1_votes x p0 T = some (.inr ("java/util/NoSuchElementException", e), T1)) : Ct G mX0_votes 11 (LWo (lc L S v) T) [va_rf x, .int p0, .ref (lo_ L)] (.inl (some (.int 1))) (LWo (lc L S v) T1) := by
  have hd : xdl T T1 := c_X1_votes_dm x p0 T _ h
  refine Ct.ofch (plainFor_of_name (by decide +kernel)) rfl (xvQ (xvI (xvQ (r := some (lo_ L)) xvN))) (Nat.le_of_ble_eq_true rfl) (show Xr G _ 0 [(0, va_rf x), (1, .int p0), (2, .ref (lo_ L))] [] _ from ?_)
  refine X.aload_n dX0_votes_0 rfl 2 rfl ?_
  refine X.iconst (v := 0) dX0_votes_1 (by decide) ?_
  refine C.aload_n dX0_votes_2 rfl 0 rfl ?_
  refine X.iload_n dX0_votes_3 rfl 1 rfl ?_
  refine C.Vt (As := [.int p0]) (rest := [.int 0, .ref (lo_ L)]) dX0_votes_4 (Ct.frame hg (w_X1_votes h)) cX0_27 (isO_LW hx) rfl rfl (Nat.le_of_ble_eq_true rfl) rfl rfl (xD (Nat.le_of_ble_eq_true rfl)) hd.2 xle.rf (Xt.catchL (pre := []) (suf := []) (z := ⟨0, 9, 12, 18⟩) rfl (fun _ h => nomatch h) (by decide) (by decide) q1254 q1273 rfl (tgt := 12) rfl ?_)
  refine C.ast_n (L' := [(3, va_rf (some e)), (0, va_rf x), (1, .int p0), (2, .ref (lo_ L))]) dX0_votes_12 rfl (Nat.le_of_ble_eq_true rfl) (xcQ (xcI (xcQ (r := some (lo_ L)) xcN))) rfl ?_
  refine X.iconst (v := 1) dX0_votes_13 (by decide) ?_
  exact X.iret dX0_votes_14 rfl rfl rfl
abbrev cX0_voting : ByteArray := method_13_code
def yX0_voting : MethodName := ⟨RX0, "voting", "(LMouldVotes;II[J)I"⟩
def dkwX0_voting_0 : List UInt8 := [45, 3, 42, 27, 28, 182, 0, 47, 133, 80, 167, 0, 11, 58, 4, 4, 172, 58, 4, 5, 172, 3, 172]
abbrev dktX0_voting_0 : List UInt8 := dkwX0_voting_0 ++ []
theorem dksX0_voting_0 : cX0_voting.data.toList.drop 0 = dktX0_voting_0 := by decide +kernel
theorem dX0_voting_0 : decode cX0_voting 0 = .ok (.aload_n 3, 1) := dk_45 (dk_at dksX0_voting_0 0 rfl rfl)
theorem dX0_voting_1 : decode cX0_voting 1 = .ok (.iconst 0, 1) := dk_3 (dk_at dksX0_voting_0 1 rfl rfl)
theorem dX0_voting_2 : decode cX0_voting 2 = .ok (.aload_n 0, 1) := dk_42 (dk_at dksX0_voting_0 2 rfl rfl)
theorem dX0_voting_3 : decode cX0_voting 3 = .ok (.iload_n 1, 1) := dk_27 (dk_at dksX0_voting_0 3 rfl rfl)
theorem dX0_voting_4 : decode cX0_voting 4 = .ok (.iload_n 2, 1) := dk_28 (dk_at dksX0_voting_0 4 rfl rfl)
theorem dX0_voting_5 : decode cX0_voting 5 = .ok (.invokevirtual 47, 3) := dk_182 0 47 (dk_at dksX0_voting_0 5 rfl rfl)
theorem dX0_voting_8 : decode cX0_voting 8 = .ok (.i2l, 1) := dk_133 (dk_at dksX0_voting_0 8 rfl rfl)
theorem dX0_voting_9 : decode cX0_voting 9 = .ok (.lastore, 1) := dk_80 (dk_at dksX0_voting_0 9 rfl rfl)
theorem dX0_voting_10 : decode cX0_voting 10 = .ok (.goto 11, 3) := dk_167 0 11 (dk_at dksX0_voting_0 10 rfl rfl)
theorem dX0_voting_13 : decode cX0_voting 13 = .ok (.astore 4, 2) := dk_58 4 (dk_at dksX0_voting_0 13 rfl rfl)
theorem dX0_voting_15 : decode cX0_voting 15 = .ok (.iconst 1, 1) := dk_4 (dk_at dksX0_voting_0 15 rfl rfl)
theorem dX0_voting_16 : decode cX0_voting 16 = .ok (.ireturn, 1) := dk_172 (dk_at dksX0_voting_0 16 rfl rfl)
theorem dX0_voting_17 : decode cX0_voting 17 = .ok (.astore 4, 2) := dk_58 4 (dk_at dksX0_voting_0 17 rfl rfl)
theorem dX0_voting_19 : decode cX0_voting 19 = .ok (.iconst 2, 1) := dk_5 (dk_at dksX0_voting_0 19 rfl rfl)
theorem dX0_voting_20 : decode cX0_voting 20 = .ok (.ireturn, 1) := dk_172 (dk_at dksX0_voting_0 20 rfl rfl)
theorem dX0_voting_21 : decode cX0_voting 21 = .ok (.iconst 0, 1) := dk_3 (dk_at dksX0_voting_0 21 rfl rfl)
theorem dX0_voting_22 : decode cX0_voting 22 = .ok (.ireturn, 1) := dk_172 (dk_at dksX0_voting_0 22 rfl rfl)
abbrev mX0_voting : xM := (yX0_voting, cX0_voting, 5, some .int, [(0, 10, 13, 18), (0, 10, 17, 13)])
theorem cX0_47 : xCV RX0 47 mX1_voting 2 := ⟨lw_V q1370 q1371 q1372 q121 q1373, rfl, ⟨by decide +kernel, by decide +kernel, by decide +kernel⟩, Nat.le_of_ble_eq_true rfl⟩
theorem wl_X0_voting {G : xG} (hg : gR G = fun _ => none) {L : xL} {S : MS} {v : Nat → Int64} {T T1 : xF} {x : Option Nat} {p0 : Int32} {p1 : Int32} {r : Int32} (hn : NN L T) (hx : isO T x 0 = true) (h : c_X1_voting (gW G (lc L S v)) x p0 p1 T = some (.inl r, T1)) : Ct G mX0_voting 128 (LWo (lc L S v) T) [va_rf x, .int p0, .int p1, .ref (lo_ L)] (.inl (some (.int 0))) (LWo (lc L S (vp_updL v 0 r.toInt64)) T1) := by
  have hd : xdl T T1 := c_X1_voting_dm x p0 p1 T _ h
  have hn1 := hn.dm hd
  refine Ct.ofch (plainFor_of_name (by decide +kernel)) rfl (xvQ (xvI (xvI (xvQ (r := some (lo_ L)) xvN)))) (Nat.le_of_ble_eq_true rfl) (show Xr G _ 0 [(0, va_rf x), (1, .int p0), (2, .int p1), (3, .ref (lo_ L))] [] _ from ?_)
  refine X.aload_n dX0_voting_0 rfl 3 rfl ?_
  refine X.iconst (v := 0) dX0_voting_1 (by decide) ?_
  refine C.aload_n dX0_voting_2 rfl 0 rfl ?_
  refine X.iload_n dX0_voting_3 rfl 1 rfl ?_
  refine X.iload_n dX0_voting_4 rfl 2 rfl ?_
  refine C.Vi (As := [.int p0, .int p1]) (rest := [.int 0, .ref (lo_ L)]) dX0_voting_5 (Ct.frame hg (w_X1_voting h)) cX0_47 (isO_LW hx) rfl rfl (Nat.le_of_ble_eq_true rfl) rfl rfl (xD (Nat.le_of_ble_eq_true rfl)) hd.2 xle.rf ?_
  refine X.i2l dX0_voting_8 rfl ?_
  refine LR.last dX0_voting_9 hn1 ?_
  refine X.goto (tgt := 21) dX0_voting_10 (by decide) ?_
  refine X.iconst (v := 0) dX0_voting_21 (by decide) ?_
  exact X.iret dX0_voting_22 rfl rfl rfl
theorem wt_X0_voting_1 {G : xG} (hg : gR G = fun _ => none) {L : xL} {S : MS} {v : Nat → Int64} {T T1 : xF} {x : Option Nat} {p0 : Int32} {p1 : Int32} {e : Nat} (hn : NN L T) (hx : isO T x 0 = true) (h : c_X1_voting (gW G (lc L S v)) x p0 p1 T = some (.inr ("java/util/NoSuchElementException", e), T1)) : Ct G mX0_voting 128 (LWo (lc L S v) T) [va_rf x, .int p0, .int p1, .ref (lo_ L)] (.inl (some (.int 1))) (LWo (lc L S v) T1) := by
  have hd : xdl T T1 := c_X1_voting_dm x p0 p1 T _ h
  refine Ct.ofch (plainFor_of_name (by decide +kernel)) rfl (xvQ (xvI (xvI (xvQ (r := some (lo_ L)) xvN)))) (Nat.le_of_ble_eq_true rfl) (show Xr G _ 0 [(0, va_rf x), (1, .int p0), (2, .int p1), (3, .ref (lo_ L))] [] _ from ?_)
  refine X.aload_n dX0_voting_0 rfl 3 rfl ?_
  refine X.iconst (v := 0) dX0_voting_1 (by decide) ?_
  refine C.aload_n dX0_voting_2 rfl 0 rfl ?_
  refine X.iload_n dX0_voting_3 rfl 1 rfl ?_
  refine X.iload_n dX0_voting_4 rfl 2 rfl ?_
  refine C.Vt (As := [.int p0, .int p1]) (rest := [.int 0, .ref (lo_ L)]) dX0_voting_5 (Ct.frame hg (w_X1_voting h)) cX0_47 (isO_LW hx) rfl rfl (Nat.le_of_ble_eq_true rfl) rfl rfl (xD (Nat.le_of_ble_eq_true rfl)) hd.2 xle.rf (Xt.catchL (pre := []) (suf := [⟨0, 10, 17, 13⟩]) (z := ⟨0, 10, 13, 18⟩) rfl (fun _ h => nomatch h) (by decide) (by decide) q1254 q1273 rfl (tgt := 13) rfl ?_)
  refine C.ast (L' := [(4, va_rf (some e)), (0, va_rf x), (1, .int p0), (2, .int p1), (3, .ref (lo_ L))]) dX0_voting_13 (Nat.le_of_ble_eq_true rfl) (xcQ (xcI (xcI (xcQ (r := some (lo_ L)) xcN)))) rfl ?_
  refine X.iconst (v := 1) dX0_voting_15 (by decide) ?_
  exact X.iret dX0_voting_16 rfl rfl rfl
theorem wt_X0_voting_2 {G : xG} (hg : gR G = fun _ => none) {L : xL} {S : MS} {v : Nat → Int64} {T T1 : xF} {x : Option Nat} {p0 : Int32} {p1 : Int32} {e : Nat} (hn : NN L T) (hx : isO T x 0 = true) (h : c_X1_voting (gW G (lc L S v)) x p0 p1 T = some (.inr ("java/lang/IllegalArgumentException", e), T1)) : Ct G mX0_voting 128 (LWo (lc L S v) T) [va_rf x, .int p0, .int p1, .ref (lo_ L)] (.inl (some (.int 2))) (LWo (lc L S v) T1) := by
  have hd : xdl T T1 := c_X1_voting_dm x p0 p1 T _ h
  refine Ct.ofch (plainFor_of_name (by decide +kernel)) rfl (xvQ (xvI (xvI (xvQ (r := some (lo_ L)) xvN)))) (Nat.le_of_ble_eq_true rfl) (show Xr G _ 0 [(0, va_rf x), (1, .int p0), (2, .int p1), (3, .ref (lo_ L))] [] _ from ?_)
  refine X.aload_n dX0_voting_0 rfl 3 rfl ?_
  refine X.iconst (v := 0) dX0_voting_1 (by decide) ?_
  refine C.aload_n dX0_voting_2 rfl 0 rfl ?_
  refine X.iload_n dX0_voting_3 rfl 1 rfl ?_
  refine X.iload_n dX0_voting_4 rfl 2 rfl ?_
  refine C.Vt (As := [.int p0, .int p1]) (rest := [.int 0, .ref (lo_ L)]) dX0_voting_5 (Ct.frame hg (w_X1_voting h)) cX0_47 (isO_LW hx) rfl rfl (Nat.le_of_ble_eq_true rfl) rfl rfl (xD (Nat.le_of_ble_eq_true rfl)) hd.2 xle.rf (Xt.catchL (pre := [⟨0, 10, 13, 18⟩]) (suf := []) (z := ⟨0, 10, 17, 13⟩) rfl (fun y hy => by rw [List.mem_singleton.mp hy]; exact ⟨by decide, q1254, rfl⟩) (by decide) (by decide) q733 q744 rfl (tgt := 17) rfl ?_)
  refine C.ast (L' := [(4, va_rf (some e)), (0, va_rf x), (1, .int p0), (2, .int p1), (3, .ref (lo_ L))]) dX0_voting_17 (Nat.le_of_ble_eq_true rfl) (xcQ (xcI (xcI (xcQ (r := some (lo_ L)) xcN)))) rfl ?_
  refine X.iconst (v := 2) dX0_voting_19 (by decide) ?_
  exact X.iret dX0_voting_20 rfl rfl rfl
abbrev cX0_winner : ByteArray := method_14_code
def yX0_winner : MethodName := ⟨RX0, "winner", "(LMouldVotes;I[J)I"⟩
def dkwX0_winner_0 : List UInt8 := [44, 3, 42, 27, 182, 0, 50, 133, 80, 167, 0, 6, 78, 4, 172, 3, 172]
abbrev dktX0_winner_0 : List UInt8 := dkwX0_winner_0 ++ []
theorem dksX0_winner_0 : cX0_winner.data.toList.drop 0 = dktX0_winner_0 := by decide +kernel
theorem dX0_winner_0 : decode cX0_winner 0 = .ok (.aload_n 2, 1) := dk_44 (dk_at dksX0_winner_0 0 rfl rfl)
theorem dX0_winner_1 : decode cX0_winner 1 = .ok (.iconst 0, 1) := dk_3 (dk_at dksX0_winner_0 1 rfl rfl)
theorem dX0_winner_2 : decode cX0_winner 2 = .ok (.aload_n 0, 1) := dk_42 (dk_at dksX0_winner_0 2 rfl rfl)
theorem dX0_winner_3 : decode cX0_winner 3 = .ok (.iload_n 1, 1) := dk_27 (dk_at dksX0_winner_0 3 rfl rfl)
theorem dX0_winner_4 : decode cX0_winner 4 = .ok (.invokevirtual 50, 3) := dk_182 0 50 (dk_at dksX0_winner_0 4 rfl rfl)
theorem dX0_winner_7 : decode cX0_winner 7 = .ok (.i2l, 1) := dk_133 (dk_at dksX0_winner_0 7 rfl rfl)
theorem dX0_winner_8 : decode cX0_winner 8 = .ok (.lastore, 1) := dk_80 (dk_at dksX0_winner_0 8 rfl rfl)
theorem dX0_winner_9 : decode cX0_winner 9 = .ok (.goto 6, 3) := dk_167 0 6 (dk_at dksX0_winner_0 9 rfl rfl)
theorem dX0_winner_12 : decode cX0_winner 12 = .ok (.astore_n 3, 1) := dk_78 (dk_at dksX0_winner_0 12 rfl rfl)
theorem dX0_winner_13 : decode cX0_winner 13 = .ok (.iconst 1, 1) := dk_4 (dk_at dksX0_winner_0 13 rfl rfl)
theorem dX0_winner_14 : decode cX0_winner 14 = .ok (.ireturn, 1) := dk_172 (dk_at dksX0_winner_0 14 rfl rfl)
theorem dX0_winner_15 : decode cX0_winner 15 = .ok (.iconst 0, 1) := dk_3 (dk_at dksX0_winner_0 15 rfl rfl)
theorem dX0_winner_16 : decode cX0_winner 16 = .ok (.ireturn, 1) := dk_172 (dk_at dksX0_winner_0 16 rfl rfl)
abbrev mX0_winner : xM := (yX0_winner, cX0_winner, 4, some .int, [(0, 9, 12, 13)])
theorem cX0_50 : xCV RX0 50 mX1_winner 1 := ⟨lw_V q1377 q1378 q1379 q121 q1380, rfl, ⟨by decide +kernel, by decide +kernel, by decide +kernel⟩, Nat.le_of_ble_eq_true rfl⟩
theorem wl_X0_winner {G : xG} (hg : gR G = fun _ => none) {L : xL} {S : MS} {v : Nat → Int64} {T T1 : xF} {x : Option Nat} {p0 : Int32} {r : Int32} (hn : NN L T) (hx : isO T x 0 = true) (h : c_X1_winner (gW G (lc L S v)) x p0 T = some (.inl r, T1)) : Ct G mX0_winner 128 (LWo (lc L S v) T) [va_rf x, .int p0, .ref (lo_ L)] (.inl (some (.int 0))) (LWo (lc L S (vp_updL v 0 r.toInt64)) T1) := by
  have hd : xdl T T1 := c_X1_winner_dm x p0 T _ h
  have hn1 := hn.dm hd
  refine Ct.ofch (plainFor_of_name (by decide +kernel)) rfl (xvQ (xvI (xvQ (r := some (lo_ L)) xvN))) (Nat.le_of_ble_eq_true rfl) (show Xr G _ 0 [(0, va_rf x), (1, .int p0), (2, .ref (lo_ L))] [] _ from ?_)
  refine X.aload_n dX0_winner_0 rfl 2 rfl ?_
  refine X.iconst (v := 0) dX0_winner_1 (by decide) ?_
  refine C.aload_n dX0_winner_2 rfl 0 rfl ?_
  refine X.iload_n dX0_winner_3 rfl 1 rfl ?_
  refine C.Vi (As := [.int p0]) (rest := [.int 0, .ref (lo_ L)]) dX0_winner_4 (Ct.frame hg (w_X1_winner h)) cX0_50 (isO_LW hx) rfl rfl (Nat.le_of_ble_eq_true rfl) rfl rfl (xD (Nat.le_of_ble_eq_true rfl)) hd.2 xle.rf ?_
  refine X.i2l dX0_winner_7 rfl ?_
  refine LR.last dX0_winner_8 hn1 ?_
  refine X.goto (tgt := 15) dX0_winner_9 (by decide) ?_
  refine X.iconst (v := 0) dX0_winner_15 (by decide) ?_
  exact X.iret dX0_winner_16 rfl rfl rfl
theorem wt_X0_winner_1 {G : xG} (hg : gR G = fun _ => none) {L : xL} {S : MS} {v : Nat → Int64} {T T1 : xF} {x : Option Nat} {p0 : Int32} {e : Nat} (hn : NN L T) (hx : isO T x 0 = true) (h : c_X1_winner (gW G (lc L S v)) x p0 T = some (.inr ("java/lang/IllegalArgumentException", e), T1)) : Ct G mX0_winner 128 (LWo (lc L S v) T) [va_rf x, .int p0, .ref (lo_ L)] (.inl (some (.int 1))) (LWo (lc L S v) T1) := by
  have hd : xdl T T1 := c_X1_winner_dm x p0 T _ h
  refine Ct.ofch (plainFor_of_name (by decide +kernel)) rfl (xvQ (xvI (xvQ (r := some (lo_ L)) xvN))) (Nat.le_of_ble_eq_true rfl) (show Xr G _ 0 [(0, va_rf x), (1, .int p0), (2, .ref (lo_ L))] [] _ from ?_)
  refine X.aload_n dX0_winner_0 rfl 2 rfl ?_
  refine X.iconst (v := 0) dX0_winner_1 (by decide) ?_
  refine C.aload_n dX0_winner_2 rfl 0 rfl ?_
  refine X.iload_n dX0_winner_3 rfl 1 rfl ?_
  refine C.Vt (As := [.int p0]) (rest := [.int 0, .ref (lo_ L)]) dX0_winner_4 (Ct.frame hg (w_X1_winner h)) cX0_50 (isO_LW hx) rfl rfl (Nat.le_of_ble_eq_true rfl) rfl rfl (xD (Nat.le_of_ble_eq_true rfl)) hd.2 xle.rf (Xt.catchL (pre := []) (suf := []) (z := ⟨0, 9, 12, 13⟩) rfl (fun _ h => nomatch h) (by decide) (by decide) q733 q744 rfl (tgt := 12) rfl ?_)
  refine C.ast_n (L' := [(3, va_rf (some e)), (0, va_rf x), (1, .int p0), (2, .ref (lo_ L))]) dX0_winner_12 rfl (Nat.le_of_ble_eq_true rfl) (xcQ (xcI (xcQ (r := some (lo_ L)) xcN))) rfl ?_
  refine X.iconst (v := 1) dX0_winner_13 (by decide) ?_
  exact X.iret dX0_winner_14 rfl rfl rfl
