set_option maxRecDepth 100000
theorem q121 : (Jvm.Cond.initialized "MouldVotes") ∈ lw_all := lw_g (lw_at lw_m1 1 rfl) rfl
theorem q155 : (Jvm.Cond.instantiable "MouldVotes" (15 : Nat)) ∈ lw_all := lw_g (lw_at lw_m1 35 rfl) rfl
theorem q157 : (Jvm.Cond.instanceMethod ({ cls := "MouldVotes", name := "<init>", desc := "()V" } : Jvm.MethodName)) ∈ lw_all := lw_g (lw_at lw_m1 37 rfl) rfl
theorem q158 : (Jvm.Cond.code ({ cls := "MouldVotes", name := "<init>", desc := "()V" } : Jvm.MethodName) prog_1_method_5_code (1 : Nat) (Option.none : Option Jvm.ClassFile.FieldType)) ∈ lw_all := lw_g (lw_at lw_m1 38 rfl) rfl
theorem q159 : (Jvm.Cond.methodLink "MouldVotes" (10 : Nat) ({ cls := "java/lang/Object", name := "<init>", desc := "()V" } : Jvm.MethodName)) ∈ lw_all := lw_g (lw_at lw_m1 39 rfl) rfl
theorem q162 : (Jvm.Cond.classLink "MouldVotes" (19 : Nat) "MouldVotes$Roll") ∈ lw_all := lw_g (lw_at lw_m1 42 rfl) rfl
theorem q164 : (Jvm.Cond.methodLinkNest "MouldVotes" (21 : Nat) ({ cls := "MouldVotes$Roll", name := "<init>", desc := "()V" } : Jvm.MethodName) "MouldVotes") ∈ lw_tbl := lw_at lw_m1 44 rfl
theorem q196 : (Jvm.Cond.fieldLinkNest "MouldVotes" (101 : Nat) "MouldVotes$Roll" "parties" "Ljava/util/List;" "MouldVotes") ∈ lw_tbl := lw_at lw_m1 76 rfl
theorem q202 : (Jvm.Cond.fieldLinkNest "MouldVotes" (98 : Nat) "MouldVotes$Roll" "wide" "I" "MouldVotes") ∈ lw_tbl := lw_at lw_m1 82 rfl
theorem q207 : (Jvm.Cond.fieldLinkNest "MouldVotes" (116 : Nat) "MouldVotes$Roll" "age" "I" "MouldVotes") ∈ lw_tbl := lw_at lw_m1 87 rfl
theorem q212 : (Jvm.Cond.fieldLinkNest "MouldVotes" (119 : Nat) "MouldVotes$Roll" "spores" "I" "MouldVotes") ∈ lw_tbl := lw_at lw_m1 92 rfl
theorem q235 : (Jvm.Cond.classLink "MouldVotes" (26 : Nat) "MouldVotes$Growth") ∈ lw_all := lw_g (lw_at lw_m1 115 rfl) rfl
theorem q237 : (Jvm.Cond.methodLink "MouldVotes" (28 : Nat) ({ cls := "MouldVotes$Growth", name := "<init>", desc := "(LMouldVotes;)V" } : Jvm.MethodName)) ∈ lw_all := lw_g (lw_at lw_m1 117 rfl) rfl
theorem q242 : (Jvm.Cond.fieldLinkNest "MouldVotes" (149 : Nat) "MouldVotes$Growth" "damp" "[I" "MouldVotes") ∈ lw_tbl := lw_at lw_m1 122 rfl
theorem q245 : (Jvm.Cond.fieldLinkNest "MouldVotes" (152 : Nat) "MouldVotes$Growth" "food" "[I" "MouldVotes") ∈ lw_tbl := lw_at lw_m1 125 rfl
theorem q248 : (Jvm.Cond.fieldLinkNest "MouldVotes" (96 : Nat) "MouldVotes$Growth" "kind" "[I" "MouldVotes") ∈ lw_tbl := lw_at lw_m1 128 rfl
theorem q251 : (Jvm.Cond.fieldLinkNest "MouldVotes" (155 : Nat) "MouldVotes$Growth" "size" "[I" "MouldVotes") ∈ lw_tbl := lw_at lw_m1 131 rfl
theorem q254 : (Jvm.Cond.fieldLinkNest "MouldVotes" (109 : Nat) "MouldVotes$Growth" "day" "I" "MouldVotes") ∈ lw_tbl := lw_at lw_m1 134 rfl
theorem q269 : (Jvm.Cond.classLink "MouldVotes" (52 : Nat) "java/util/ArrayList") ∈ lw_all := lw_g (lw_at lw_m1 149 rfl) rfl
theorem q270 : (Jvm.Cond.methodLink "MouldVotes" (54 : Nat) ({ cls := "java/util/ArrayList", name := "<init>", desc := "()V" } : Jvm.MethodName)) ∈ lw_all := lw_g (lw_at lw_m1 150 rfl) rfl
theorem q271 : (Jvm.Cond.fieldLink "MouldVotes" (13 : Nat) "MouldVotes" "values" "[I") ∈ lw_all := lw_g (lw_at lw_m1 151 rfl) rfl
theorem q274 : (Jvm.Cond.fieldLink "MouldVotes" (22 : Nat) "MouldVotes" "roll" "LMouldVotes$Roll;") ∈ lw_all := lw_g (lw_at lw_m1 154 rfl) rfl
theorem q275 : (Jvm.Cond.fieldLink "MouldVotes" (31 : Nat) "MouldVotes" "before" "LMouldVotes$Growth;") ∈ lw_all := lw_g (lw_at lw_m1 155 rfl) rfl
theorem q277 : (Jvm.Cond.fieldLink "MouldVotes" (35 : Nat) "MouldVotes" "tried" "LMouldVotes$Growth;") ∈ lw_all := lw_g (lw_at lw_m1 157 rfl) rfl
theorem q278 : (Jvm.Cond.fieldLink "MouldVotes" (38 : Nat) "MouldVotes" "growth" "LMouldVotes$Growth;") ∈ lw_all := lw_g (lw_at lw_m1 158 rfl) rfl
theorem q280 : (Jvm.Cond.fieldLink "MouldVotes" (41 : Nat) "MouldVotes" "tape" "[B") ∈ lw_all := lw_g (lw_at lw_m1 160 rfl) rfl
theorem q281 : (Jvm.Cond.fieldLink "MouldVotes" (62 : Nat) "MouldVotes" "taped" "I") ∈ lw_all := lw_g (lw_at lw_m1 161 rfl) rfl
theorem q282 : (Jvm.Cond.fieldLink "MouldVotes" (45 : Nat) "MouldVotes" "faultPlace" "I") ∈ lw_all := lw_g (lw_at lw_m1 162 rfl) rfl
theorem q283 : (Jvm.Cond.fieldLink "MouldVotes" (49 : Nat) "MouldVotes" "refused" "[I") ∈ lw_all := lw_g (lw_at lw_m1 163 rfl) rfl
theorem q284 : (Jvm.Cond.fieldLink "MouldVotes" (55 : Nat) "MouldVotes" "acts" "Ljava/util/List;") ∈ lw_all := lw_g (lw_at lw_m1 164 rfl) rfl
theorem q285 : (Jvm.Cond.fieldLink "MouldVotes" (59 : Nat) "MouldVotes" "seen" "Ljava/util/List;") ∈ lw_all := lw_g (lw_at lw_m1 165 rfl) rfl
theorem q286 : (Jvm.Cond.fieldLink "MouldVotes" (89 : Nat) "MouldVotes" "growthThen" "LMouldVotes$Growth;") ∈ lw_all := lw_g (lw_at lw_m1 166 rfl) rfl
theorem q287 : (Jvm.Cond.fieldLink "MouldVotes" (293 : Nat) "MouldVotes" "actsThen" "Ljava/util/List;") ∈ lw_all := lw_g (lw_at lw_m1 167 rfl) rfl
theorem q288 : (Jvm.Cond.fieldLink "MouldVotes" (296 : Nat) "MouldVotes" "seenThen" "Ljava/util/List;") ∈ lw_all := lw_g (lw_at lw_m1 168 rfl) rfl
theorem q289 : (Jvm.Cond.fieldLink "MouldVotes" (276 : Nat) "MouldVotes" "seed" "I") ∈ lw_all := lw_g (lw_at lw_m1 169 rfl) rfl
theorem q290 : (Jvm.Cond.laysFinal "MouldVotes" "MouldVotes" "values" "[I") ∈ lw_all := lw_g (lw_at lw_m1 170 rfl) rfl
theorem q291 : (Jvm.Cond.soleField "MouldVotes" "values") ∈ lw_all := lw_g (lw_at lw_m1 171 rfl) rfl
theorem q292 : (Jvm.Cond.lays "MouldVotes" "MouldVotes" "roll" "LMouldVotes$Roll;") ∈ lw_all := lw_g (lw_at lw_m1 172 rfl) rfl
theorem q293 : (Jvm.Cond.soleField "MouldVotes" "roll") ∈ lw_all := lw_g (lw_at lw_m1 173 rfl) rfl
theorem q294 : (Jvm.Cond.laysFinal "MouldVotes" "MouldVotes" "before" "LMouldVotes$Growth;") ∈ lw_all := lw_g (lw_at lw_m1 174 rfl) rfl
theorem q295 : (Jvm.Cond.soleField "MouldVotes" "before") ∈ lw_all := lw_g (lw_at lw_m1 175 rfl) rfl
theorem q296 : (Jvm.Cond.laysFinal "MouldVotes" "MouldVotes" "tried" "LMouldVotes$Growth;") ∈ lw_all := lw_g (lw_at lw_m1 176 rfl) rfl
theorem q297 : (Jvm.Cond.soleField "MouldVotes" "tried") ∈ lw_all := lw_g (lw_at lw_m1 177 rfl) rfl
theorem q298 : (Jvm.Cond.lays "MouldVotes" "MouldVotes" "growth" "LMouldVotes$Growth;") ∈ lw_all := lw_g (lw_at lw_m1 178 rfl) rfl
theorem q299 : (Jvm.Cond.soleField "MouldVotes" "growth") ∈ lw_all := lw_g (lw_at lw_m1 179 rfl) rfl
theorem q300 : (Jvm.Cond.laysFinal "MouldVotes" "MouldVotes" "tape" "[B") ∈ lw_all := lw_g (lw_at lw_m1 180 rfl) rfl
theorem q301 : (Jvm.Cond.soleField "MouldVotes" "tape") ∈ lw_all := lw_g (lw_at lw_m1 181 rfl) rfl
theorem q302 : (Jvm.Cond.lays "MouldVotes" "MouldVotes" "taped" "I") ∈ lw_all := lw_g (lw_at lw_m1 182 rfl) rfl
theorem q303 : (Jvm.Cond.soleField "MouldVotes" "taped") ∈ lw_all := lw_g (lw_at lw_m1 183 rfl) rfl
theorem q304 : (Jvm.Cond.lays "MouldVotes" "MouldVotes" "faultPlace" "I") ∈ lw_all := lw_g (lw_at lw_m1 184 rfl) rfl
theorem q305 : (Jvm.Cond.soleField "MouldVotes" "faultPlace") ∈ lw_all := lw_g (lw_at lw_m1 185 rfl) rfl
theorem q306 : (Jvm.Cond.laysFinal "MouldVotes" "MouldVotes" "refused" "[I") ∈ lw_all := lw_g (lw_at lw_m1 186 rfl) rfl
theorem q307 : (Jvm.Cond.soleField "MouldVotes" "refused") ∈ lw_all := lw_g (lw_at lw_m1 187 rfl) rfl
theorem q308 : (Jvm.Cond.lays "MouldVotes" "MouldVotes" "acts" "Ljava/util/List;") ∈ lw_all := lw_g (lw_at lw_m1 188 rfl) rfl
theorem q309 : (Jvm.Cond.soleField "MouldVotes" "acts") ∈ lw_all := lw_g (lw_at lw_m1 189 rfl) rfl
theorem q310 : (Jvm.Cond.lays "MouldVotes" "MouldVotes" "seen" "Ljava/util/List;") ∈ lw_all := lw_g (lw_at lw_m1 190 rfl) rfl
theorem q311 : (Jvm.Cond.soleField "MouldVotes" "seen") ∈ lw_all := lw_g (lw_at lw_m1 191 rfl) rfl
theorem q312 : (Jvm.Cond.lays "MouldVotes" "MouldVotes" "growthThen" "LMouldVotes$Growth;") ∈ lw_all := lw_g (lw_at lw_m1 192 rfl) rfl
theorem q313 : (Jvm.Cond.soleField "MouldVotes" "growthThen") ∈ lw_all := lw_g (lw_at lw_m1 193 rfl) rfl
theorem q314 : (Jvm.Cond.lays "MouldVotes" "MouldVotes" "actsThen" "Ljava/util/List;") ∈ lw_all := lw_g (lw_at lw_m1 194 rfl) rfl
theorem q315 : (Jvm.Cond.soleField "MouldVotes" "actsThen") ∈ lw_all := lw_g (lw_at lw_m1 195 rfl) rfl
theorem q316 : (Jvm.Cond.lays "MouldVotes" "MouldVotes" "seenThen" "Ljava/util/List;") ∈ lw_all := lw_g (lw_at lw_m1 196 rfl) rfl
theorem q317 : (Jvm.Cond.soleField "MouldVotes" "seenThen") ∈ lw_all := lw_g (lw_at lw_m1 197 rfl) rfl
theorem q318 : (Jvm.Cond.lays "MouldVotes" "MouldVotes" "seed" "I") ∈ lw_all := lw_g (lw_at lw_m1 198 rfl) rfl
theorem q319 : (Jvm.Cond.soleField "MouldVotes" "seed") ∈ lw_all := lw_g (lw_at lw_m1 199 rfl) rfl
theorem q320 : (Jvm.Cond.superclass "MouldVotes" "java/lang/Object") ∈ lw_all := lw_g (lw_at lw_m1 200 rfl) rfl
theorem q323 : (Jvm.Cond.instanceMethod ({ cls := "MouldVotes", name := "feed", desc := "(IIIII)I" } : Jvm.MethodName)) ∈ lw_all := lw_g (lw_at lw_m1 203 rfl) rfl
theorem q324 : (Jvm.Cond.selects "MouldVotes" ({ cls := "MouldVotes", name := "feed", desc := "(IIIII)I" } : Jvm.MethodName) ({ cls := "MouldVotes", name := "feed", desc := "(IIIII)I" } : Jvm.MethodName)) ∈ lw_all := lw_g (lw_at lw_m1 204 rfl) rfl
theorem q325 : (Jvm.Cond.code ({ cls := "MouldVotes", name := "feed", desc := "(IIIII)I" } : Jvm.MethodName) prog_1_method_6_code (8 : Nat) (Option.some Jvm.ClassFile.FieldType.int)) ∈ lw_all := lw_g (lw_at lw_m1 205 rfl) rfl
theorem q327 : (Jvm.Cond.instanceMethod ({ cls := "MouldVotes", name := "fault", desc := "()I" } : Jvm.MethodName)) ∈ lw_all := lw_g (lw_at lw_m1 207 rfl) rfl
theorem q328 : (Jvm.Cond.selects "MouldVotes" ({ cls := "MouldVotes", name := "fault", desc := "()I" } : Jvm.MethodName) ({ cls := "MouldVotes", name := "fault", desc := "()I" } : Jvm.MethodName)) ∈ lw_all := lw_g (lw_at lw_m1 208 rfl) rfl
theorem q329 : (Jvm.Cond.code ({ cls := "MouldVotes", name := "fault", desc := "()I" } : Jvm.MethodName) prog_1_method_8_code (1 : Nat) (Option.some Jvm.ClassFile.FieldType.int)) ∈ lw_all := lw_g (lw_at lw_m1 209 rfl) rfl
theorem q331 : (Jvm.Cond.instanceMethod ({ cls := "MouldVotes", name := "days", desc := "(I)I" } : Jvm.MethodName)) ∈ lw_all := lw_g (lw_at lw_m1 211 rfl) rfl
theorem q332 : (Jvm.Cond.selects "MouldVotes" ({ cls := "MouldVotes", name := "days", desc := "(I)I" } : Jvm.MethodName) ({ cls := "MouldVotes", name := "days", desc := "(I)I" } : Jvm.MethodName)) ∈ lw_all := lw_g (lw_at lw_m1 212 rfl) rfl
theorem q333 : (Jvm.Cond.code ({ cls := "MouldVotes", name := "days", desc := "(I)I" } : Jvm.MethodName) prog_1_method_21_code (2 : Nat) (Option.some Jvm.ClassFile.FieldType.int)) ∈ lw_all := lw_g (lw_at lw_m1 213 rfl) rfl
theorem q334 : (Jvm.Cond.methodLink "MouldVotes" (134 : Nat) ({ cls := "MouldVotes", name := "in", desc := "(III)Z" } : Jvm.MethodName)) ∈ lw_all := lw_g (lw_at lw_m1 214 rfl) rfl
theorem q335 : (Jvm.Cond.static ({ cls := "MouldVotes", name := "in", desc := "(III)Z" } : Jvm.MethodName)) ∈ lw_all := lw_g (lw_at lw_m1 215 rfl) rfl
theorem q336 : (Jvm.Cond.code ({ cls := "MouldVotes", name := "in", desc := "(III)Z" } : Jvm.MethodName) prog_1_method_1_code (3 : Nat) (Option.some Jvm.ClassFile.FieldType.boolean)) ∈ lw_all := lw_g (lw_at lw_m1 216 rfl) rfl
theorem q337 : (Jvm.Cond.methodLink "MouldVotes" (193 : Nat) ({ cls := "MouldVotes", name := "refuse", desc := "(I)I" } : Jvm.MethodName)) ∈ lw_all := lw_g (lw_at lw_m1 217 rfl) rfl
theorem q338 : (Jvm.Cond.privateMethod ({ cls := "MouldVotes", name := "refuse", desc := "(I)I" } : Jvm.MethodName)) ∈ lw_tbl := lw_at lw_m1 218 rfl
theorem q339 : (Jvm.Cond.instanceMethod ({ cls := "MouldVotes", name := "refuse", desc := "(I)I" } : Jvm.MethodName)) ∈ lw_all := lw_g (lw_at lw_m1 219 rfl) rfl
theorem q340 : (Jvm.Cond.code ({ cls := "MouldVotes", name := "refuse", desc := "(I)I" } : Jvm.MethodName) prog_1_method_20_code (2 : Nat) (Option.some Jvm.ClassFile.FieldType.int)) ∈ lw_all := lw_g (lw_at lw_m1 220 rfl) rfl
theorem q341 : (Jvm.Cond.methodLink "MouldVotes" (196 : Nat) ({ cls := "MouldVotes", name := "keepAct", desc := "()V" } : Jvm.MethodName)) ∈ lw_all := lw_g (lw_at lw_m1 221 rfl) rfl
theorem q342 : (Jvm.Cond.privateMethod ({ cls := "MouldVotes", name := "keepAct", desc := "()V" } : Jvm.MethodName)) ∈ lw_tbl := lw_at lw_m1 222 rfl
theorem q343 : (Jvm.Cond.instanceMethod ({ cls := "MouldVotes", name := "keepAct", desc := "()V" } : Jvm.MethodName)) ∈ lw_all := lw_g (lw_at lw_m1 223 rfl) rfl
theorem q344 : (Jvm.Cond.code ({ cls := "MouldVotes", name := "keepAct", desc := "()V" } : Jvm.MethodName) prog_1_method_19_code (1 : Nat) (Option.none : Option Jvm.ClassFile.FieldType)) ∈ lw_all := lw_g (lw_at lw_m1 224 rfl) rfl
theorem q345 : (Jvm.Cond.methodLink "MouldVotes" (182 : Nat) ({ cls := "MouldVotes$Growth", name := "copy", desc := "()LMouldVotes$Growth;" } : Jvm.MethodName)) ∈ lw_all := lw_g (lw_at lw_m1 225 rfl) rfl
theorem q355 : (Jvm.Cond.interfaceEntry "MouldVotes" (186 : Nat)) ∈ lw_tbl := lw_at lw_m1 235 rfl
theorem q356 : (Jvm.Cond.methodLink "MouldVotes" (186 : Nat) ({ cls := "java/util/List", name := "add", desc := "(Ljava/lang/Object;)Z" } : Jvm.MethodName)) ∈ lw_all := lw_g (lw_at lw_m1 236 rfl) rfl
theorem q393 : (Jvm.Cond.selects "MouldVotes" ({ cls := "java/lang/Object", name := "getClass", desc := "()Ljava/lang/Class;" } : Jvm.MethodName) ({ cls := "java/lang/Object", name := "getClass", desc := "()Ljava/lang/Class;" } : Jvm.MethodName)) ∈ lw_all := lw_g (lw_at lw_m2 33 rfl) rfl
theorem q423 : (Jvm.Cond.interfaceEntry "MouldVotes" (104 : Nat)) ∈ lw_tbl := lw_at lw_m2 63 rfl
theorem q424 : (Jvm.Cond.methodLink "MouldVotes" (104 : Nat) ({ cls := "java/util/List", name := "size", desc := "()I" } : Jvm.MethodName)) ∈ lw_all := lw_g (lw_at lw_m2 64 rfl) rfl
theorem q432 : (Jvm.Cond.interfaceEntry "MouldVotes" (190 : Nat)) ∈ lw_tbl := lw_at lw_m2 72 rfl
theorem q433 : (Jvm.Cond.methodLink "MouldVotes" (190 : Nat) ({ cls := "java/util/List", name := "remove", desc := "(I)Ljava/lang/Object;" } : Jvm.MethodName)) ∈ lw_all := lw_g (lw_at lw_m2 73 rfl) rfl
theorem q452 : (Jvm.Cond.methodLink "MouldVotes" (199 : Nat) ({ cls := "MouldVotes$Growth", name := "after", desc := "(I)LMouldVotes$Growth;" } : Jvm.MethodName)) ∈ lw_all := lw_g (lw_at lw_m2 92 rfl) rfl
theorem q607 : (Jvm.Cond.instanceMethod ({ cls := "MouldVotes", name := "undo", desc := "()I" } : Jvm.MethodName)) ∈ lw_all := lw_g (lw_at lw_m3 7 rfl) rfl
theorem q608 : (Jvm.Cond.selects "MouldVotes" ({ cls := "MouldVotes", name := "undo", desc := "()I" } : Jvm.MethodName) ({ cls := "MouldVotes", name := "undo", desc := "()I" } : Jvm.MethodName)) ∈ lw_all := lw_g (lw_at lw_m3 8 rfl) rfl
theorem q609 : (Jvm.Cond.code ({ cls := "MouldVotes", name := "undo", desc := "()I" } : Jvm.MethodName) prog_1_method_26_code (1 : Nat) (Option.some Jvm.ClassFile.FieldType.int)) ∈ lw_all := lw_g (lw_at lw_m3 9 rfl) rfl
theorem q610 : (Jvm.Cond.interfaceEntry "MouldVotes" (209 : Nat)) ∈ lw_tbl := lw_at lw_m3 10 rfl
theorem q611 : (Jvm.Cond.methodLink "MouldVotes" (209 : Nat) ({ cls := "java/util/List", name := "isEmpty", desc := "()Z" } : Jvm.MethodName)) ∈ lw_all := lw_g (lw_at lw_m3 11 rfl) rfl
theorem q613 : (Jvm.Cond.instanceMethod ({ cls := "MouldVotes", name := "rest", desc := "()I" } : Jvm.MethodName)) ∈ lw_all := lw_g (lw_at lw_m3 13 rfl) rfl
theorem q614 : (Jvm.Cond.selects "MouldVotes" ({ cls := "MouldVotes", name := "rest", desc := "()I" } : Jvm.MethodName) ({ cls := "MouldVotes", name := "rest", desc := "()I" } : Jvm.MethodName)) ∈ lw_all := lw_g (lw_at lw_m3 14 rfl) rfl
theorem q615 : (Jvm.Cond.code ({ cls := "MouldVotes", name := "rest", desc := "()I" } : Jvm.MethodName) prog_1_method_32_code (6 : Nat) (Option.some Jvm.ClassFile.FieldType.int)) ∈ lw_all := lw_g (lw_at lw_m3 15 rfl) rfl
theorem q616 : (Jvm.Cond.methodLink "MouldVotes" (213 : Nat) ({ cls := "MouldVotes$Growth", name := "be", desc := "(LMouldVotes$Growth;)LMouldVotes$Growth;" } : Jvm.MethodName)) ∈ lw_all := lw_g (lw_at lw_m3 16 rfl) rfl
theorem q617 : (Jvm.Cond.methodLink "MouldVotes" (92 : Nat) ({ cls := "MouldVotes$Roll", name := "cells", desc := "()I" } : Jvm.MethodName)) ∈ lw_all := lw_g (lw_at lw_m3 17 rfl) rfl
theorem q618 : (Jvm.Cond.methodLink "MouldVotes" (220 : Nat) ({ cls := "MouldVotes$Growth", name := "pass", desc := "()LMouldVotes$Growth;" } : Jvm.MethodName)) ∈ lw_all := lw_g (lw_at lw_m3 18 rfl) rfl
theorem q620 : (Jvm.Cond.instanceMethod ({ cls := "MouldVotes", name := "counting", desc := "()I" } : Jvm.MethodName)) ∈ lw_all := lw_g (lw_at lw_m3 20 rfl) rfl
theorem q621 : (Jvm.Cond.selects "MouldVotes" ({ cls := "MouldVotes", name := "counting", desc := "()I" } : Jvm.MethodName) ({ cls := "MouldVotes", name := "counting", desc := "()I" } : Jvm.MethodName)) ∈ lw_all := lw_g (lw_at lw_m3 21 rfl) rfl
theorem q622 : (Jvm.Cond.code ({ cls := "MouldVotes", name := "counting", desc := "()I" } : Jvm.MethodName) prog_1_method_37_code (8 : Nat) (Option.some Jvm.ClassFile.FieldType.int)) ∈ lw_all := lw_g (lw_at lw_m3 22 rfl) rfl
theorem q623 : (Jvm.Cond.methodLink "MouldVotes" (234 : Nat) ({ cls := "MouldVotes", name := "voters", desc := "()Ljava/util/List;" } : Jvm.MethodName)) ∈ lw_all := lw_g (lw_at lw_m3 23 rfl) rfl
theorem q624 : (Jvm.Cond.privateMethod ({ cls := "MouldVotes", name := "voters", desc := "()Ljava/util/List;" } : Jvm.MethodName)) ∈ lw_tbl := lw_at lw_m3 24 rfl
theorem q625 : (Jvm.Cond.instanceMethod ({ cls := "MouldVotes", name := "voters", desc := "()Ljava/util/List;" } : Jvm.MethodName)) ∈ lw_all := lw_g (lw_at lw_m3 25 rfl) rfl
theorem q626 : (Jvm.Cond.code ({ cls := "MouldVotes", name := "voters", desc := "()Ljava/util/List;" } : Jvm.MethodName) prog_1_method_36_code (3 : Nat) (Option.some (Jvm.ClassFile.FieldType.object "java/util/List"))) ∈ lw_all := lw_g (lw_at lw_m3 26 rfl) rfl
theorem q627 : (Jvm.Cond.methodLink "MouldVotes" (226 : Nat) ({ cls := "MouldVotes$Growth", name := "isVoter", desc := "(I)Z" } : Jvm.MethodName)) ∈ lw_all := lw_g (lw_at lw_m3 27 rfl) rfl
theorem q631 : (Jvm.Cond.methodLink "MouldVotes" (230 : Nat) ({ cls := "java/lang/Integer", name := "valueOf", desc := "(I)Ljava/lang/Integer;" } : Jvm.MethodName)) ∈ lw_all := lw_g (lw_at lw_m3 31 rfl) rfl
theorem q651 : (Jvm.Cond.classLink "MouldVotes" (238 : Nat) "[[I") ∈ lw_all := lw_g (lw_at lw_m3 51 rfl) rfl
theorem q653 : (Jvm.Cond.constant "MouldVotes" (240 : Nat) (100000 : Int32)) ∈ lw_all := lw_g (lw_at lw_m3 53 rfl) rfl
theorem q654 : (Jvm.Cond.methodLink "MouldVotes" (241 : Nat) ({ cls := "MouldVotes", name := "isOf", desc := "(II)Z" } : Jvm.MethodName)) ∈ lw_all := lw_g (lw_at lw_m3 54 rfl) rfl
theorem q655 : (Jvm.Cond.static ({ cls := "MouldVotes", name := "isOf", desc := "(II)Z" } : Jvm.MethodName)) ∈ lw_all := lw_g (lw_at lw_m3 55 rfl) rfl
theorem q656 : (Jvm.Cond.code ({ cls := "MouldVotes", name := "isOf", desc := "(II)Z" } : Jvm.MethodName) prog_1_method_4_code (2 : Nat) (Option.some Jvm.ClassFile.FieldType.boolean)) ∈ lw_all := lw_g (lw_at lw_m3 56 rfl) rfl
theorem q657 : (Jvm.Cond.interfaceEntry "MouldVotes" (167 : Nat)) ∈ lw_tbl := lw_at lw_m3 57 rfl
theorem q658 : (Jvm.Cond.methodLink "MouldVotes" (167 : Nat) ({ cls := "java/util/List", name := "get", desc := "(I)Ljava/lang/Object;" } : Jvm.MethodName)) ∈ lw_all := lw_g (lw_at lw_m3 58 rfl) rfl
theorem q659 : (Jvm.Cond.classLink "MouldVotes" (171 : Nat) "java/lang/Integer") ∈ lw_all := lw_g (lw_at lw_m3 59 rfl) rfl
theorem q660 : (Jvm.Cond.methodLink "MouldVotes" (173 : Nat) ({ cls := "java/lang/Integer", name := "intValue", desc := "()I" } : Jvm.MethodName)) ∈ lw_all := lw_g (lw_at lw_m3 60 rfl) rfl
theorem q661 : (Jvm.Cond.methodLink "MouldVotes" (141 : Nat) ({ cls := "MouldVotes$Roll", name := "steps", desc := "(II)I" } : Jvm.MethodName)) ∈ lw_all := lw_g (lw_at lw_m3 61 rfl) rfl
theorem q662 : (Jvm.Cond.methodLink "MouldVotes" (245 : Nat) ({ cls := "java/lang/Math", name := "min", desc := "(II)I" } : Jvm.MethodName)) ∈ lw_all := lw_g (lw_at lw_m3 62 rfl) rfl
theorem q664 : (Jvm.Cond.instanceMethod ({ cls := "MouldVotes", name := "carry", desc := "()I" } : Jvm.MethodName)) ∈ lw_all := lw_g (lw_at lw_m3 64 rfl) rfl
theorem q665 : (Jvm.Cond.selects "MouldVotes" ({ cls := "MouldVotes", name := "carry", desc := "()I" } : Jvm.MethodName) ({ cls := "MouldVotes", name := "carry", desc := "()I" } : Jvm.MethodName)) ∈ lw_all := lw_g (lw_at lw_m3 65 rfl) rfl
theorem q666 : (Jvm.Cond.code ({ cls := "MouldVotes", name := "carry", desc := "()I" } : Jvm.MethodName) prog_1_method_39_code (3 : Nat) (Option.some Jvm.ClassFile.FieldType.int)) ∈ lw_all := lw_g (lw_at lw_m3 66 rfl) rfl
theorem q667 : (Jvm.Cond.methodLink "MouldVotes" (125 : Nat) ({ cls := "MouldVotes", name := "allParties", desc := "()I" } : Jvm.MethodName)) ∈ lw_all := lw_g (lw_at lw_m3 67 rfl) rfl
theorem q668 : (Jvm.Cond.static ({ cls := "MouldVotes", name := "allParties", desc := "()I" } : Jvm.MethodName)) ∈ lw_all := lw_g (lw_at lw_m3 68 rfl) rfl
theorem q669 : (Jvm.Cond.code ({ cls := "MouldVotes", name := "allParties", desc := "()I" } : Jvm.MethodName) prog_1_method_10_code (0 : Nat) (Option.some Jvm.ClassFile.FieldType.int)) ∈ lw_all := lw_g (lw_at lw_m3 69 rfl) rfl
theorem q670 : (Jvm.Cond.methodLink "MouldVotes" (250 : Nat) ({ cls := "MouldVotes", name := "carries", desc := "(I)Z" } : Jvm.MethodName)) ∈ lw_all := lw_g (lw_at lw_m3 70 rfl) rfl
theorem q671 : (Jvm.Cond.privateMethod ({ cls := "MouldVotes", name := "carries", desc := "(I)Z" } : Jvm.MethodName)) ∈ lw_tbl := lw_at lw_m3 71 rfl
theorem q672 : (Jvm.Cond.instanceMethod ({ cls := "MouldVotes", name := "carries", desc := "(I)Z" } : Jvm.MethodName)) ∈ lw_all := lw_g (lw_at lw_m3 72 rfl) rfl
theorem q673 : (Jvm.Cond.code ({ cls := "MouldVotes", name := "carries", desc := "(I)Z" } : Jvm.MethodName) prog_1_method_38_code (2 : Nat) (Option.some Jvm.ClassFile.FieldType.boolean)) ∈ lw_all := lw_g (lw_at lw_m3 73 rfl) rfl
theorem q674 : (Jvm.Cond.methodLink "MouldVotes" (128 : Nat) ({ cls := "MouldVotes$Growth", name := "votesOf", desc := "(I)I" } : Jvm.MethodName)) ∈ lw_all := lw_g (lw_at lw_m3 74 rfl) rfl
theorem q688 : (Jvm.Cond.methodLink "MouldVotes" (253 : Nat) ({ cls := "java/lang/Integer", name := "bitCount", desc := "(I)I" } : Jvm.MethodName)) ∈ lw_all := lw_g (lw_at lw_m3 88 rfl) rfl
theorem q695 : (Jvm.Cond.instanceMethod ({ cls := "MouldVotes", name := "forget", desc := "()V" } : Jvm.MethodName)) ∈ lw_all := lw_g (lw_at lw_m3 95 rfl) rfl
theorem q696 : (Jvm.Cond.selects "MouldVotes" ({ cls := "MouldVotes", name := "forget", desc := "()V" } : Jvm.MethodName) ({ cls := "MouldVotes", name := "forget", desc := "()V" } : Jvm.MethodName)) ∈ lw_all := lw_g (lw_at lw_m3 96 rfl) rfl
theorem q697 : (Jvm.Cond.code ({ cls := "MouldVotes", name := "forget", desc := "()V" } : Jvm.MethodName) prog_1_method_42_code (1 : Nat) (Option.none : Option Jvm.ClassFile.FieldType)) ∈ lw_all := lw_g (lw_at lw_m3 97 rfl) rfl
theorem q699 : (Jvm.Cond.instanceMethod ({ cls := "MouldVotes", name := "image", desc := "()V" } : Jvm.MethodName)) ∈ lw_all := lw_g (lw_at lw_m3 99 rfl) rfl
theorem q700 : (Jvm.Cond.selects "MouldVotes" ({ cls := "MouldVotes", name := "image", desc := "()V" } : Jvm.MethodName) ({ cls := "MouldVotes", name := "image", desc := "()V" } : Jvm.MethodName)) ∈ lw_all := lw_g (lw_at lw_m3 100 rfl) rfl
theorem q701 : (Jvm.Cond.code ({ cls := "MouldVotes", name := "image", desc := "()V" } : Jvm.MethodName) prog_1_method_64_code (1 : Nat) (Option.none : Option Jvm.ClassFile.FieldType)) ∈ lw_all := lw_g (lw_at lw_m3 101 rfl) rfl
theorem q702 : (Jvm.Cond.methodLink "MouldVotes" (290 : Nat) ({ cls := "java/util/ArrayList", name := "<init>", desc := "(Ljava/util/Collection;)V" } : Jvm.MethodName)) ∈ lw_all := lw_g (lw_at lw_m3 102 rfl) rfl
theorem q727 : (Jvm.Cond.instanceMethod ({ cls := "MouldVotes", name := "restore", desc := "()Z" } : Jvm.MethodName)) ∈ lw_all := lw_g (lw_at lw_m3 127 rfl) rfl
theorem q728 : (Jvm.Cond.selects "MouldVotes" ({ cls := "MouldVotes", name := "restore", desc := "()Z" } : Jvm.MethodName) ({ cls := "MouldVotes", name := "restore", desc := "()Z" } : Jvm.MethodName)) ∈ lw_all := lw_g (lw_at lw_m3 128 rfl) rfl
theorem q729 : (Jvm.Cond.code ({ cls := "MouldVotes", name := "restore", desc := "()Z" } : Jvm.MethodName) prog_1_method_65_code (1 : Nat) (Option.some Jvm.ClassFile.FieldType.boolean)) ∈ lw_all := lw_g (lw_at lw_m3 129 rfl) rfl
theorem q735 : (Jvm.Cond.instanceMethod ({ cls := "MouldVotes", name := "roll", desc := "(I)I" } : Jvm.MethodName)) ∈ lw_all := lw_g (lw_at lw_m3 135 rfl) rfl
theorem q736 : (Jvm.Cond.selects "MouldVotes" ({ cls := "MouldVotes", name := "roll", desc := "(I)I" } : Jvm.MethodName) ({ cls := "MouldVotes", name := "roll", desc := "(I)I" } : Jvm.MethodName)) ∈ lw_all := lw_g (lw_at lw_m3 136 rfl) rfl
theorem q737 : (Jvm.Cond.codeWith ({ cls := "MouldVotes", name := "roll", desc := "(I)I" } : Jvm.MethodName) prog_1_method_7_code (4 : Nat) (Option.some Jvm.ClassFile.FieldType.int) [((40 : Nat), (48 : Nat), (51 : Nat), (78 : Nat))]) ∈ lw_all := lw_g (lw_at lw_m3 137 rfl) rfl
theorem q738 : (Jvm.Cond.classLink "MouldVotes" (78 : Nat) "MouldVotes$Wrong") ∈ lw_all := lw_g (lw_at lw_m3 138 rfl) rfl
theorem q739 : (Jvm.Cond.methodLink "MouldVotes" (65 : Nat) ({ cls := "MouldVotes", name := "right", desc := "(Z)V" } : Jvm.MethodName)) ∈ lw_all := lw_g (lw_at lw_m3 139 rfl) rfl
theorem q740 : (Jvm.Cond.static ({ cls := "MouldVotes", name := "right", desc := "(Z)V" } : Jvm.MethodName)) ∈ lw_all := lw_g (lw_at lw_m3 140 rfl) rfl
theorem q741 : (Jvm.Cond.code ({ cls := "MouldVotes", name := "right", desc := "(Z)V" } : Jvm.MethodName) prog_1_method_3_code (1 : Nat) (Option.none : Option Jvm.ClassFile.FieldType)) ∈ lw_all := lw_g (lw_at lw_m3 141 rfl) rfl
theorem q742 : (Jvm.Cond.classLink "MouldVotes" (7 : Nat) "java/lang/IllegalArgumentException") ∈ lw_all := lw_g (lw_at lw_m3 142 rfl) rfl
theorem q783 : (Jvm.Cond.methodLink "MouldVotes" (9 : Nat) ({ cls := "java/lang/IllegalArgumentException", name := "<init>", desc := "()V" } : Jvm.MethodName)) ∈ lw_all := lw_g (lw_at lw_m3 183 rfl) rfl
theorem q806 : (Jvm.Cond.classLink "MouldVotes" (69 : Nat) "MouldVotes$Reader") ∈ lw_all := lw_g (lw_at lw_m3 206 rfl) rfl
theorem q808 : (Jvm.Cond.methodLink "MouldVotes" (71 : Nat) ({ cls := "MouldVotes$Reader", name := "<init>", desc := "(LMouldVotes;I)V" } : Jvm.MethodName)) ∈ lw_all := lw_g (lw_at lw_m3 208 rfl) rfl
theorem q834 : (Jvm.Cond.fieldLinkNest "MouldVotes" (86 : Nat) "MouldVotes$Reader" "begun" "LMouldVotes$Growth;" "MouldVotes") ∈ lw_tbl := lw_at lw_m3 234 rfl
theorem q842 : (Jvm.Cond.fieldLinkNest "MouldVotes" (80 : Nat) "MouldVotes$Reader" "begins" "I" "MouldVotes") ∈ lw_tbl := lw_at lw_m4 2 rfl
theorem q879 : (Jvm.Cond.methodLink "MouldVotes" (74 : Nat) ({ cls := "MouldVotes$Reader", name := "read", desc := "()LMouldVotes$Roll;" } : Jvm.MethodName)) ∈ lw_all := lw_g (lw_at lw_m4 39 rfl) rfl
theorem q1031 : (Jvm.Cond.fieldLinkNest "MouldVotes" (83 : Nat) "MouldVotes$Wrong" "kind" "I" "MouldVotes") ∈ lw_tbl := lw_at lw_m4 191 rfl
theorem q1256 : (Jvm.Cond.instanceMethod ({ cls := "MouldVotes", name := "count", desc := "(I)I" } : Jvm.MethodName)) ∈ lw_all := lw_g (lw_at lw_m5 176 rfl) rfl
theorem q1257 : (Jvm.Cond.selects "MouldVotes" ({ cls := "MouldVotes", name := "count", desc := "(I)I" } : Jvm.MethodName) ({ cls := "MouldVotes", name := "count", desc := "(I)I" } : Jvm.MethodName)) ∈ lw_all := lw_g (lw_at lw_m5 177 rfl) rfl
theorem q1258 : (Jvm.Cond.code ({ cls := "MouldVotes", name := "count", desc := "(I)I" } : Jvm.MethodName) prog_1_method_11_code (2 : Nat) (Option.some Jvm.ClassFile.FieldType.int)) ∈ lw_all := lw_g (lw_at lw_m5 178 rfl) rfl
theorem q1259 : (Jvm.Cond.methodLink "MouldVotes" (112 : Nat) ({ cls := "MouldVotes$Roll", name := "warmth", desc := "(I)I" } : Jvm.MethodName)) ∈ lw_all := lw_g (lw_at lw_m5 179 rfl) rfl
theorem q1260 : (Jvm.Cond.methodLink "MouldVotes" (122 : Nat) ({ cls := "MouldVotes", name := "moulds", desc := "()I" } : Jvm.MethodName)) ∈ lw_all := lw_g (lw_at lw_m5 180 rfl) rfl
theorem q1261 : (Jvm.Cond.privateMethod ({ cls := "MouldVotes", name := "moulds", desc := "()I" } : Jvm.MethodName)) ∈ lw_tbl := lw_at lw_m5 181 rfl
theorem q1262 : (Jvm.Cond.instanceMethod ({ cls := "MouldVotes", name := "moulds", desc := "()I" } : Jvm.MethodName)) ∈ lw_all := lw_g (lw_at lw_m5 182 rfl) rfl
theorem q1263 : (Jvm.Cond.code ({ cls := "MouldVotes", name := "moulds", desc := "()I" } : Jvm.MethodName) prog_1_method_9_code (3 : Nat) (Option.some Jvm.ClassFile.FieldType.int)) ∈ lw_all := lw_g (lw_at lw_m5 183 rfl) rfl
theorem q1264 : (Jvm.Cond.methodLink "MouldVotes" (131 : Nat) ({ cls := "MouldVotes$Growth", name := "winner", desc := "()I" } : Jvm.MethodName)) ∈ lw_all := lw_g (lw_at lw_m5 184 rfl) rfl
theorem q1268 : (Jvm.Cond.methodLink "MouldVotes" (138 : Nat) ({ cls := "MouldVotes", name := "found", desc := "(Z)V" } : Jvm.MethodName)) ∈ lw_all := lw_g (lw_at lw_m5 188 rfl) rfl
theorem q1269 : (Jvm.Cond.static ({ cls := "MouldVotes", name := "found", desc := "(Z)V" } : Jvm.MethodName)) ∈ lw_all := lw_g (lw_at lw_m5 189 rfl) rfl
theorem q1270 : (Jvm.Cond.code ({ cls := "MouldVotes", name := "found", desc := "(Z)V" } : Jvm.MethodName) prog_1_method_2_code (1 : Nat) (Option.none : Option Jvm.ClassFile.FieldType)) ∈ lw_all := lw_g (lw_at lw_m5 190 rfl) rfl
theorem q1271 : (Jvm.Cond.classLink "MouldVotes" (1 : Nat) "java/util/NoSuchElementException") ∈ lw_all := lw_g (lw_at lw_m5 191 rfl) rfl
theorem q1280 : (Jvm.Cond.methodLink "MouldVotes" (3 : Nat) ({ cls := "java/util/NoSuchElementException", name := "<init>", desc := "()V" } : Jvm.MethodName)) ∈ lw_all := lw_g (lw_at lw_m5 200 rfl) rfl
theorem q1290 : (Jvm.Cond.instanceMethod ({ cls := "MouldVotes", name := "cell", desc := "(II)I" } : Jvm.MethodName)) ∈ lw_all := lw_g (lw_at lw_m5 210 rfl) rfl
theorem q1291 : (Jvm.Cond.selects "MouldVotes" ({ cls := "MouldVotes", name := "cell", desc := "(II)I" } : Jvm.MethodName) ({ cls := "MouldVotes", name := "cell", desc := "(II)I" } : Jvm.MethodName)) ∈ lw_all := lw_g (lw_at lw_m5 211 rfl) rfl
theorem q1292 : (Jvm.Cond.code ({ cls := "MouldVotes", name := "cell", desc := "(II)I" } : Jvm.MethodName) prog_1_method_15_code (3 : Nat) (Option.some Jvm.ClassFile.FieldType.int)) ∈ lw_all := lw_g (lw_at lw_m5 212 rfl) rfl
theorem q1293 : (Jvm.Cond.methodLink "MouldVotes" (145 : Nat) ({ cls := "MouldVotes", name := "aCell", desc := "(I)V" } : Jvm.MethodName)) ∈ lw_all := lw_g (lw_at lw_m5 213 rfl) rfl
theorem q1294 : (Jvm.Cond.privateMethod ({ cls := "MouldVotes", name := "aCell", desc := "(I)V" } : Jvm.MethodName)) ∈ lw_tbl := lw_at lw_m5 214 rfl
theorem q1295 : (Jvm.Cond.instanceMethod ({ cls := "MouldVotes", name := "aCell", desc := "(I)V" } : Jvm.MethodName)) ∈ lw_all := lw_g (lw_at lw_m5 215 rfl) rfl
theorem q1296 : (Jvm.Cond.code ({ cls := "MouldVotes", name := "aCell", desc := "(I)V" } : Jvm.MethodName) prog_1_method_12_code (2 : Nat) (Option.none : Option Jvm.ClassFile.FieldType)) ∈ lw_all := lw_g (lw_at lw_m5 216 rfl) rfl
theorem q1297 : (Jvm.Cond.methodLink "MouldVotes" (157 : Nat) ({ cls := "MouldVotes", name := "beside", desc := "(I)I" } : Jvm.MethodName)) ∈ lw_all := lw_g (lw_at lw_m5 217 rfl) rfl
theorem q1298 : (Jvm.Cond.privateMethod ({ cls := "MouldVotes", name := "beside", desc := "(I)I" } : Jvm.MethodName)) ∈ lw_tbl := lw_at lw_m5 218 rfl
theorem q1299 : (Jvm.Cond.instanceMethod ({ cls := "MouldVotes", name := "beside", desc := "(I)I" } : Jvm.MethodName)) ∈ lw_all := lw_g (lw_at lw_m5 219 rfl) rfl
theorem q1300 : (Jvm.Cond.code ({ cls := "MouldVotes", name := "beside", desc := "(I)I" } : Jvm.MethodName) prog_1_method_14_code (4 : Nat) (Option.some Jvm.ClassFile.FieldType.int)) ∈ lw_all := lw_g (lw_at lw_m5 220 rfl) rfl
theorem q1301 : (Jvm.Cond.methodLink "MouldVotes" (160 : Nat) ({ cls := "MouldVotes$Growth", name := "grows", desc := "(I)I" } : Jvm.MethodName)) ∈ lw_all := lw_g (lw_at lw_m5 221 rfl) rfl
theorem q1306 : (Jvm.Cond.instanceMethod ({ cls := "MouldVotes", name := "party", desc := "(I)I" } : Jvm.MethodName)) ∈ lw_all := lw_g (lw_at lw_m5 226 rfl) rfl
theorem q1307 : (Jvm.Cond.selects "MouldVotes" ({ cls := "MouldVotes", name := "party", desc := "(I)I" } : Jvm.MethodName) ({ cls := "MouldVotes", name := "party", desc := "(I)I" } : Jvm.MethodName)) ∈ lw_all := lw_g (lw_at lw_m5 227 rfl) rfl
theorem q1308 : (Jvm.Cond.code ({ cls := "MouldVotes", name := "party", desc := "(I)I" } : Jvm.MethodName) prog_1_method_16_code (2 : Nat) (Option.some Jvm.ClassFile.FieldType.int)) ∈ lw_all := lw_g (lw_at lw_m5 228 rfl) rfl
theorem q1309 : (Jvm.Cond.methodLink "MouldVotes" (163 : Nat) ({ cls := "MouldVotes", name := "oneOf", desc := "(II)V" } : Jvm.MethodName)) ∈ lw_all := lw_g (lw_at lw_m5 229 rfl) rfl
theorem q1310 : (Jvm.Cond.static ({ cls := "MouldVotes", name := "oneOf", desc := "(II)V" } : Jvm.MethodName)) ∈ lw_all := lw_g (lw_at lw_m5 230 rfl) rfl
theorem q1311 : (Jvm.Cond.code ({ cls := "MouldVotes", name := "oneOf", desc := "(II)V" } : Jvm.MethodName) prog_1_method_13_code (2 : Nat) (Option.none : Option Jvm.ClassFile.FieldType)) ∈ lw_all := lw_g (lw_at lw_m5 231 rfl) rfl
theorem q1316 : (Jvm.Cond.instanceMethod ({ cls := "MouldVotes", name := "votes", desc := "(I)I" } : Jvm.MethodName)) ∈ lw_all := lw_g (lw_at lw_m5 236 rfl) rfl
theorem q1317 : (Jvm.Cond.selects "MouldVotes" ({ cls := "MouldVotes", name := "votes", desc := "(I)I" } : Jvm.MethodName) ({ cls := "MouldVotes", name := "votes", desc := "(I)I" } : Jvm.MethodName)) ∈ lw_all := lw_g (lw_at lw_m5 237 rfl) rfl
theorem q1318 : (Jvm.Cond.code ({ cls := "MouldVotes", name := "votes", desc := "(I)I" } : Jvm.MethodName) prog_1_method_18_code (2 : Nat) (Option.some Jvm.ClassFile.FieldType.int)) ∈ lw_all := lw_g (lw_at lw_m5 238 rfl) rfl
theorem q1319 : (Jvm.Cond.methodLink "MouldVotes" (176 : Nat) ({ cls := "MouldVotes", name := "aParty", desc := "(I)V" } : Jvm.MethodName)) ∈ lw_all := lw_g (lw_at lw_m5 239 rfl) rfl
theorem q1320 : (Jvm.Cond.static ({ cls := "MouldVotes", name := "aParty", desc := "(I)V" } : Jvm.MethodName)) ∈ lw_all := lw_g (lw_at lw_m6 0 rfl) rfl
theorem q1321 : (Jvm.Cond.code ({ cls := "MouldVotes", name := "aParty", desc := "(I)V" } : Jvm.MethodName) prog_1_method_17_code (1 : Nat) (Option.none : Option Jvm.ClassFile.FieldType)) ∈ lw_all := lw_g (lw_at lw_m6 1 rfl) rfl
theorem q1322 : (Jvm.Cond.methodLink "MouldVotes" (179 : Nat) ({ cls := "MouldVotes$Growth", name := "votes", desc := "(I)I" } : Jvm.MethodName)) ∈ lw_all := lw_g (lw_at lw_m6 2 rfl) rfl
theorem q1327 : (Jvm.Cond.instanceMethod ({ cls := "MouldVotes", name := "bread", desc := "(II)I" } : Jvm.MethodName)) ∈ lw_all := lw_g (lw_at lw_m6 7 rfl) rfl
theorem q1328 : (Jvm.Cond.selects "MouldVotes" ({ cls := "MouldVotes", name := "bread", desc := "(II)I" } : Jvm.MethodName) ({ cls := "MouldVotes", name := "bread", desc := "(II)I" } : Jvm.MethodName)) ∈ lw_all := lw_g (lw_at lw_m6 8 rfl) rfl
theorem q1329 : (Jvm.Cond.code ({ cls := "MouldVotes", name := "bread", desc := "(II)I" } : Jvm.MethodName) prog_1_method_22_code (3 : Nat) (Option.some Jvm.ClassFile.FieldType.int)) ∈ lw_all := lw_g (lw_at lw_m6 9 rfl) rfl
theorem q1330 : (Jvm.Cond.methodLink "MouldVotes" (203 : Nat) ({ cls := "MouldVotes$Growth", name := "feed", desc := "(II)V" } : Jvm.MethodName)) ∈ lw_all := lw_g (lw_at lw_m6 10 rfl) rfl
theorem q1338 : (Jvm.Cond.instanceMethod ({ cls := "MouldVotes", name := "damp", desc := "(II)I" } : Jvm.MethodName)) ∈ lw_all := lw_g (lw_at lw_m6 18 rfl) rfl
theorem q1339 : (Jvm.Cond.selects "MouldVotes" ({ cls := "MouldVotes", name := "damp", desc := "(II)I" } : Jvm.MethodName) ({ cls := "MouldVotes", name := "damp", desc := "(II)I" } : Jvm.MethodName)) ∈ lw_all := lw_g (lw_at lw_m6 19 rfl) rfl
theorem q1340 : (Jvm.Cond.code ({ cls := "MouldVotes", name := "damp", desc := "(II)I" } : Jvm.MethodName) prog_1_method_23_code (4 : Nat) (Option.some Jvm.ClassFile.FieldType.int)) ∈ lw_all := lw_g (lw_at lw_m6 20 rfl) rfl
theorem q1345 : (Jvm.Cond.instanceMethod ({ cls := "MouldVotes", name := "sow", desc := "(II)Z" } : Jvm.MethodName)) ∈ lw_all := lw_g (lw_at lw_m6 25 rfl) rfl
theorem q1346 : (Jvm.Cond.selects "MouldVotes" ({ cls := "MouldVotes", name := "sow", desc := "(II)Z" } : Jvm.MethodName) ({ cls := "MouldVotes", name := "sow", desc := "(II)Z" } : Jvm.MethodName)) ∈ lw_all := lw_g (lw_at lw_m6 26 rfl) rfl
theorem q1347 : (Jvm.Cond.code ({ cls := "MouldVotes", name := "sow", desc := "(II)Z" } : Jvm.MethodName) prog_1_method_24_code (3 : Nat) (Option.some Jvm.ClassFile.FieldType.boolean)) ∈ lw_all := lw_g (lw_at lw_m6 27 rfl) rfl
theorem q1352 : (Jvm.Cond.instanceMethod ({ cls := "MouldVotes", name := "scrape", desc := "(I)I" } : Jvm.MethodName)) ∈ lw_all := lw_g (lw_at lw_m6 32 rfl) rfl
theorem q1353 : (Jvm.Cond.selects "MouldVotes" ({ cls := "MouldVotes", name := "scrape", desc := "(I)I" } : Jvm.MethodName) ({ cls := "MouldVotes", name := "scrape", desc := "(I)I" } : Jvm.MethodName)) ∈ lw_all := lw_g (lw_at lw_m6 33 rfl) rfl
theorem q1354 : (Jvm.Cond.code ({ cls := "MouldVotes", name := "scrape", desc := "(I)I" } : Jvm.MethodName) prog_1_method_25_code (3 : Nat) (Option.some Jvm.ClassFile.FieldType.int)) ∈ lw_all := lw_g (lw_at lw_m6 34 rfl) rfl
theorem q1355 : (Jvm.Cond.methodLink "MouldVotes" (206 : Nat) ({ cls := "MouldVotes$Growth", name := "clear", desc := "(I)V" } : Jvm.MethodName)) ∈ lw_all := lw_g (lw_at lw_m6 35 rfl) rfl
theorem q1360 : (Jvm.Cond.instanceMethod ({ cls := "MouldVotes", name := "then", desc := "(III)I" } : Jvm.MethodName)) ∈ lw_all := lw_g (lw_at lw_m6 40 rfl) rfl
theorem q1361 : (Jvm.Cond.selects "MouldVotes" ({ cls := "MouldVotes", name := "then", desc := "(III)I" } : Jvm.MethodName) ({ cls := "MouldVotes", name := "then", desc := "(III)I" } : Jvm.MethodName)) ∈ lw_all := lw_g (lw_at lw_m6 41 rfl) rfl
theorem q1362 : (Jvm.Cond.code ({ cls := "MouldVotes", name := "then", desc := "(III)I" } : Jvm.MethodName) prog_1_method_28_code (5 : Nat) (Option.some Jvm.ClassFile.FieldType.int)) ∈ lw_all := lw_g (lw_at lw_m6 42 rfl) rfl
theorem q1363 : (Jvm.Cond.methodLink "MouldVotes" (217 : Nat) ({ cls := "MouldVotes", name := "later", desc := "(I)LMouldVotes$Growth;" } : Jvm.MethodName)) ∈ lw_all := lw_g (lw_at lw_m6 43 rfl) rfl
theorem q1364 : (Jvm.Cond.privateMethod ({ cls := "MouldVotes", name := "later", desc := "(I)LMouldVotes$Growth;" } : Jvm.MethodName)) ∈ lw_tbl := lw_at lw_m6 44 rfl
theorem q1365 : (Jvm.Cond.instanceMethod ({ cls := "MouldVotes", name := "later", desc := "(I)LMouldVotes$Growth;" } : Jvm.MethodName)) ∈ lw_all := lw_g (lw_at lw_m6 45 rfl) rfl
theorem q1366 : (Jvm.Cond.code ({ cls := "MouldVotes", name := "later", desc := "(I)LMouldVotes$Growth;" } : Jvm.MethodName) prog_1_method_27_code (2 : Nat) (Option.some (Jvm.ClassFile.FieldType.object "MouldVotes$Growth"))) ∈ lw_all := lw_g (lw_at lw_m6 46 rfl) rfl
theorem q1371 : (Jvm.Cond.instanceMethod ({ cls := "MouldVotes", name := "voting", desc := "(II)I" } : Jvm.MethodName)) ∈ lw_all := lw_g (lw_at lw_m6 51 rfl) rfl
theorem q1372 : (Jvm.Cond.selects "MouldVotes" ({ cls := "MouldVotes", name := "voting", desc := "(II)I" } : Jvm.MethodName) ({ cls := "MouldVotes", name := "voting", desc := "(II)I" } : Jvm.MethodName)) ∈ lw_all := lw_g (lw_at lw_m6 52 rfl) rfl
theorem q1373 : (Jvm.Cond.code ({ cls := "MouldVotes", name := "voting", desc := "(II)I" } : Jvm.MethodName) prog_1_method_29_code (3 : Nat) (Option.some Jvm.ClassFile.FieldType.int)) ∈ lw_all := lw_g (lw_at lw_m6 53 rfl) rfl
theorem q1378 : (Jvm.Cond.instanceMethod ({ cls := "MouldVotes", name := "winner", desc := "(I)I" } : Jvm.MethodName)) ∈ lw_all := lw_g (lw_at lw_m6 58 rfl) rfl
theorem q1379 : (Jvm.Cond.selects "MouldVotes" ({ cls := "MouldVotes", name := "winner", desc := "(I)I" } : Jvm.MethodName) ({ cls := "MouldVotes", name := "winner", desc := "(I)I" } : Jvm.MethodName)) ∈ lw_all := lw_g (lw_at lw_m6 59 rfl) rfl
theorem q1380 : (Jvm.Cond.code ({ cls := "MouldVotes", name := "winner", desc := "(I)I" } : Jvm.MethodName) prog_1_method_30_code (2 : Nat) (Option.some Jvm.ClassFile.FieldType.int)) ∈ lw_all := lw_g (lw_at lw_m6 60 rfl) rfl
theorem q1385 : (Jvm.Cond.instanceMethod ({ cls := "MouldVotes", name := "first", desc := "(I)I" } : Jvm.MethodName)) ∈ lw_all := lw_g (lw_at lw_m6 65 rfl) rfl
theorem q1386 : (Jvm.Cond.selects "MouldVotes" ({ cls := "MouldVotes", name := "first", desc := "(I)I" } : Jvm.MethodName) ({ cls := "MouldVotes", name := "first", desc := "(I)I" } : Jvm.MethodName)) ∈ lw_all := lw_g (lw_at lw_m6 66 rfl) rfl
theorem q1387 : (Jvm.Cond.code ({ cls := "MouldVotes", name := "first", desc := "(I)I" } : Jvm.MethodName) prog_1_method_31_code (3 : Nat) (Option.some Jvm.ClassFile.FieldType.int)) ∈ lw_all := lw_g (lw_at lw_m6 67 rfl) rfl
theorem q1392 : (Jvm.Cond.instanceMethod ({ cls := "MouldVotes", name := "least", desc := "(III)I" } : Jvm.MethodName)) ∈ lw_all := lw_g (lw_at lw_m6 72 rfl) rfl
theorem q1393 : (Jvm.Cond.selects "MouldVotes" ({ cls := "MouldVotes", name := "least", desc := "(III)I" } : Jvm.MethodName) ({ cls := "MouldVotes", name := "least", desc := "(III)I" } : Jvm.MethodName)) ∈ lw_all := lw_g (lw_at lw_m6 73 rfl) rfl
theorem q1394 : (Jvm.Cond.code ({ cls := "MouldVotes", name := "least", desc := "(III)I" } : Jvm.MethodName) prog_1_method_33_code (5 : Nat) (Option.some Jvm.ClassFile.FieldType.int)) ∈ lw_all := lw_g (lw_at lw_m6 74 rfl) rfl
theorem q1399 : (Jvm.Cond.instanceMethod ({ cls := "MouldVotes", name := "best", desc := "(II)I" } : Jvm.MethodName)) ∈ lw_all := lw_g (lw_at lw_m6 79 rfl) rfl
theorem q1400 : (Jvm.Cond.selects "MouldVotes" ({ cls := "MouldVotes", name := "best", desc := "(II)I" } : Jvm.MethodName) ({ cls := "MouldVotes", name := "best", desc := "(II)I" } : Jvm.MethodName)) ∈ lw_all := lw_g (lw_at lw_m6 80 rfl) rfl
theorem q1401 : (Jvm.Cond.code ({ cls := "MouldVotes", name := "best", desc := "(II)I" } : Jvm.MethodName) prog_1_method_34_code (7 : Nat) (Option.some Jvm.ClassFile.FieldType.int)) ∈ lw_all := lw_g (lw_at lw_m6 81 rfl) rfl
theorem q1406 : (Jvm.Cond.instanceMethod ({ cls := "MouldVotes", name := "frost", desc := "(II)I" } : Jvm.MethodName)) ∈ lw_all := lw_g (lw_at lw_m6 86 rfl) rfl
theorem q1407 : (Jvm.Cond.selects "MouldVotes" ({ cls := "MouldVotes", name := "frost", desc := "(II)I" } : Jvm.MethodName) ({ cls := "MouldVotes", name := "frost", desc := "(II)I" } : Jvm.MethodName)) ∈ lw_all := lw_g (lw_at lw_m6 87 rfl) rfl
theorem q1408 : (Jvm.Cond.code ({ cls := "MouldVotes", name := "frost", desc := "(II)I" } : Jvm.MethodName) prog_1_method_35_code (3 : Nat) (Option.some Jvm.ClassFile.FieldType.int)) ∈ lw_all := lw_g (lw_at lw_m6 88 rfl) rfl
theorem q1409 : (Jvm.Cond.methodLink "MouldVotes" (223 : Nat) ({ cls := "MouldVotes$Growth", name := "frost", desc := "()V" } : Jvm.MethodName)) ∈ lw_all := lw_g (lw_at lw_m6 89 rfl) rfl
theorem q1417 : (Jvm.Cond.instanceMethod ({ cls := "MouldVotes", name := "decisive", desc := "(I)I" } : Jvm.MethodName)) ∈ lw_all := lw_g (lw_at lw_m6 97 rfl) rfl
theorem q1418 : (Jvm.Cond.selects "MouldVotes" ({ cls := "MouldVotes", name := "decisive", desc := "(I)I" } : Jvm.MethodName) ({ cls := "MouldVotes", name := "decisive", desc := "(I)I" } : Jvm.MethodName)) ∈ lw_all := lw_g (lw_at lw_m6 98 rfl) rfl
theorem q1419 : (Jvm.Cond.code ({ cls := "MouldVotes", name := "decisive", desc := "(I)I" } : Jvm.MethodName) prog_1_method_40_code (4 : Nat) (Option.some Jvm.ClassFile.FieldType.int)) ∈ lw_all := lw_g (lw_at lw_m6 99 rfl) rfl
theorem q1424 : (Jvm.Cond.instanceMethod ({ cls := "MouldVotes", name := "see", desc := "(III)I" } : Jvm.MethodName)) ∈ lw_all := lw_g (lw_at lw_m6 104 rfl) rfl
theorem q1425 : (Jvm.Cond.selects "MouldVotes" ({ cls := "MouldVotes", name := "see", desc := "(III)I" } : Jvm.MethodName) ({ cls := "MouldVotes", name := "see", desc := "(III)I" } : Jvm.MethodName)) ∈ lw_all := lw_g (lw_at lw_m6 105 rfl) rfl
theorem q1426 : (Jvm.Cond.code ({ cls := "MouldVotes", name := "see", desc := "(III)I" } : Jvm.MethodName) prog_1_method_41_code (4 : Nat) (Option.some Jvm.ClassFile.FieldType.int)) ∈ lw_all := lw_g (lw_at lw_m6 106 rfl) rfl
theorem q1431 : (Jvm.Cond.instanceMethod ({ cls := "MouldVotes", name := "sown", desc := "(I)I" } : Jvm.MethodName)) ∈ lw_all := lw_g (lw_at lw_m6 111 rfl) rfl
theorem q1432 : (Jvm.Cond.selects "MouldVotes" ({ cls := "MouldVotes", name := "sown", desc := "(I)I" } : Jvm.MethodName) ({ cls := "MouldVotes", name := "sown", desc := "(I)I" } : Jvm.MethodName)) ∈ lw_all := lw_g (lw_at lw_m6 112 rfl) rfl
theorem q1433 : (Jvm.Cond.code ({ cls := "MouldVotes", name := "sown", desc := "(I)I" } : Jvm.MethodName) prog_1_method_46_code (3 : Nat) (Option.some Jvm.ClassFile.FieldType.int)) ∈ lw_all := lw_g (lw_at lw_m6 113 rfl) rfl
theorem q1434 : (Jvm.Cond.methodLink "MouldVotes" (263 : Nat) ({ cls := "MouldVotes", name := "isSo", desc := "()Z" } : Jvm.MethodName)) ∈ lw_all := lw_g (lw_at lw_m6 114 rfl) rfl
theorem q1435 : (Jvm.Cond.privateMethod ({ cls := "MouldVotes", name := "isSo", desc := "()Z" } : Jvm.MethodName)) ∈ lw_tbl := lw_at lw_m6 115 rfl
theorem q1436 : (Jvm.Cond.instanceMethod ({ cls := "MouldVotes", name := "isSo", desc := "()Z" } : Jvm.MethodName)) ∈ lw_all := lw_g (lw_at lw_m6 116 rfl) rfl
theorem q1437 : (Jvm.Cond.code ({ cls := "MouldVotes", name := "isSo", desc := "()Z" } : Jvm.MethodName) prog_1_method_43_code (5 : Nat) (Option.some Jvm.ClassFile.FieldType.boolean)) ∈ lw_all := lw_g (lw_at lw_m6 117 rfl) rfl
theorem q1438 : (Jvm.Cond.classLink "MouldVotes" (256 : Nat) "[I") ∈ lw_all := lw_g (lw_at lw_m6 118 rfl) rfl
theorem q1439 : (Jvm.Cond.methodLink "MouldVotes" (257 : Nat) ({ cls := "java/lang/Math", name := "max", desc := "(II)I" } : Jvm.MethodName)) ∈ lw_all := lw_g (lw_at lw_m6 119 rfl) rfl
theorem q1440 : (Jvm.Cond.methodLink "MouldVotes" (266 : Nat) ({ cls := "MouldVotes", name := "sowings", desc := "()Ljava/util/List;" } : Jvm.MethodName)) ∈ lw_all := lw_g (lw_at lw_m6 120 rfl) rfl
theorem q1441 : (Jvm.Cond.privateMethod ({ cls := "MouldVotes", name := "sowings", desc := "()Ljava/util/List;" } : Jvm.MethodName)) ∈ lw_tbl := lw_at lw_m6 121 rfl
theorem q1442 : (Jvm.Cond.instanceMethod ({ cls := "MouldVotes", name := "sowings", desc := "()Ljava/util/List;" } : Jvm.MethodName)) ∈ lw_all := lw_g (lw_at lw_m6 122 rfl) rfl
theorem q1443 : (Jvm.Cond.code ({ cls := "MouldVotes", name := "sowings", desc := "()Ljava/util/List;" } : Jvm.MethodName) prog_1_method_45_code (4 : Nat) (Option.some (Jvm.ClassFile.FieldType.object "java/util/List"))) ∈ lw_all := lw_g (lw_at lw_m6 123 rfl) rfl
theorem q1444 : (Jvm.Cond.methodLink "MouldVotes" (260 : Nat) ({ cls := "MouldVotes", name := "trySowing", desc := "(II)V" } : Jvm.MethodName)) ∈ lw_all := lw_g (lw_at lw_m6 124 rfl) rfl
theorem q1445 : (Jvm.Cond.privateMethod ({ cls := "MouldVotes", name := "trySowing", desc := "(II)V" } : Jvm.MethodName)) ∈ lw_tbl := lw_at lw_m6 125 rfl
theorem q1446 : (Jvm.Cond.instanceMethod ({ cls := "MouldVotes", name := "trySowing", desc := "(II)V" } : Jvm.MethodName)) ∈ lw_all := lw_g (lw_at lw_m6 126 rfl) rfl
theorem q1447 : (Jvm.Cond.code ({ cls := "MouldVotes", name := "trySowing", desc := "(II)V" } : Jvm.MethodName) prog_1_method_44_code (3 : Nat) (Option.none : Option Jvm.ClassFile.FieldType)) ∈ lw_all := lw_g (lw_at lw_m6 127 rfl) rfl
theorem q1452 : (Jvm.Cond.instanceMethod ({ cls := "MouldVotes", name := "next", desc := "(I)I" } : Jvm.MethodName)) ∈ lw_all := lw_g (lw_at lw_m6 132 rfl) rfl
theorem q1453 : (Jvm.Cond.selects "MouldVotes" ({ cls := "MouldVotes", name := "next", desc := "(I)I" } : Jvm.MethodName) ({ cls := "MouldVotes", name := "next", desc := "(I)I" } : Jvm.MethodName)) ∈ lw_all := lw_g (lw_at lw_m6 133 rfl) rfl
theorem q1454 : (Jvm.Cond.code ({ cls := "MouldVotes", name := "next", desc := "(I)I" } : Jvm.MethodName) prog_1_method_47_code (11 : Nat) (Option.some Jvm.ClassFile.FieldType.int)) ∈ lw_all := lw_g (lw_at lw_m6 134 rfl) rfl
theorem q1459 : (Jvm.Cond.instanceMethod ({ cls := "MouldVotes", name := "frosts", desc := "(III)I" } : Jvm.MethodName)) ∈ lw_all := lw_g (lw_at lw_m6 139 rfl) rfl
theorem q1460 : (Jvm.Cond.selects "MouldVotes" ({ cls := "MouldVotes", name := "frosts", desc := "(III)I" } : Jvm.MethodName) ({ cls := "MouldVotes", name := "frosts", desc := "(III)I" } : Jvm.MethodName)) ∈ lw_all := lw_g (lw_at lw_m6 140 rfl) rfl
theorem q1461 : (Jvm.Cond.code ({ cls := "MouldVotes", name := "frosts", desc := "(III)I" } : Jvm.MethodName) prog_1_method_48_code (8 : Nat) (Option.some Jvm.ClassFile.FieldType.int)) ∈ lw_all := lw_g (lw_at lw_m6 141 rfl) rfl
theorem q1466 : (Jvm.Cond.instanceMethod ({ cls := "MouldVotes", name := "game", desc := "(III)I" } : Jvm.MethodName)) ∈ lw_all := lw_g (lw_at lw_m6 146 rfl) rfl
theorem q1467 : (Jvm.Cond.selects "MouldVotes" ({ cls := "MouldVotes", name := "game", desc := "(III)I" } : Jvm.MethodName) ({ cls := "MouldVotes", name := "game", desc := "(III)I" } : Jvm.MethodName)) ∈ lw_all := lw_g (lw_at lw_m6 147 rfl) rfl
theorem q1468 : (Jvm.Cond.code ({ cls := "MouldVotes", name := "game", desc := "(III)I" } : Jvm.MethodName) prog_1_method_51_code (9 : Nat) (Option.some Jvm.ClassFile.FieldType.int)) ∈ lw_all := lw_g (lw_at lw_m6 148 rfl) rfl
theorem q1469 : (Jvm.Cond.methodLink "MouldVotes" (272 : Nat) ({ cls := "MouldVotes", name := "gains", desc := "(IIII)[I" } : Jvm.MethodName)) ∈ lw_all := lw_g (lw_at lw_m6 149 rfl) rfl
theorem q1470 : (Jvm.Cond.privateMethod ({ cls := "MouldVotes", name := "gains", desc := "(IIII)[I" } : Jvm.MethodName)) ∈ lw_tbl := lw_at lw_m6 150 rfl
theorem q1471 : (Jvm.Cond.instanceMethod ({ cls := "MouldVotes", name := "gains", desc := "(IIII)[I" } : Jvm.MethodName)) ∈ lw_all := lw_g (lw_at lw_m6 151 rfl) rfl
theorem q1472 : (Jvm.Cond.code ({ cls := "MouldVotes", name := "gains", desc := "(IIII)[I" } : Jvm.MethodName) prog_1_method_50_code (5 : Nat) (Option.some (Jvm.ClassFile.FieldType.array Jvm.ClassFile.FieldType.int))) ∈ lw_all := lw_g (lw_at lw_m6 152 rfl) rfl
theorem q1473 : (Jvm.Cond.methodLink "MouldVotes" (269 : Nat) ({ cls := "MouldVotes", name := "gives", desc := "(II)V" } : Jvm.MethodName)) ∈ lw_all := lw_g (lw_at lw_m6 153 rfl) rfl
theorem q1474 : (Jvm.Cond.privateMethod ({ cls := "MouldVotes", name := "gives", desc := "(II)V" } : Jvm.MethodName)) ∈ lw_tbl := lw_at lw_m6 154 rfl
theorem q1475 : (Jvm.Cond.instanceMethod ({ cls := "MouldVotes", name := "gives", desc := "(II)V" } : Jvm.MethodName)) ∈ lw_all := lw_g (lw_at lw_m6 155 rfl) rfl
theorem q1476 : (Jvm.Cond.code ({ cls := "MouldVotes", name := "gives", desc := "(II)V" } : Jvm.MethodName) prog_1_method_49_code (5 : Nat) (Option.none : Option Jvm.ClassFile.FieldType)) ∈ lw_all := lw_g (lw_at lw_m6 156 rfl) rfl
theorem q1481 : (Jvm.Cond.instanceMethod ({ cls := "MouldVotes", name := "drawn", desc := "(III)I" } : Jvm.MethodName)) ∈ lw_all := lw_g (lw_at lw_m6 161 rfl) rfl
theorem q1482 : (Jvm.Cond.selects "MouldVotes" ({ cls := "MouldVotes", name := "drawn", desc := "(III)I" } : Jvm.MethodName) ({ cls := "MouldVotes", name := "drawn", desc := "(III)I" } : Jvm.MethodName)) ∈ lw_all := lw_g (lw_at lw_m6 162 rfl) rfl
theorem q1483 : (Jvm.Cond.code ({ cls := "MouldVotes", name := "drawn", desc := "(III)I" } : Jvm.MethodName) prog_1_method_54_code (6 : Nat) (Option.some Jvm.ClassFile.FieldType.int)) ∈ lw_all := lw_g (lw_at lw_m6 163 rfl) rfl
theorem q1484 : (Jvm.Cond.methodLink "MouldVotes" (283 : Nat) ({ cls := "MouldVotes", name := "befalls", desc := "(LMouldVotes$Growth;)V" } : Jvm.MethodName)) ∈ lw_all := lw_g (lw_at lw_m6 164 rfl) rfl
theorem q1485 : (Jvm.Cond.privateMethod ({ cls := "MouldVotes", name := "befalls", desc := "(LMouldVotes$Growth;)V" } : Jvm.MethodName)) ∈ lw_tbl := lw_at lw_m6 165 rfl
theorem q1486 : (Jvm.Cond.instanceMethod ({ cls := "MouldVotes", name := "befalls", desc := "(LMouldVotes$Growth;)V" } : Jvm.MethodName)) ∈ lw_all := lw_g (lw_at lw_m6 166 rfl) rfl
theorem q1487 : (Jvm.Cond.code ({ cls := "MouldVotes", name := "befalls", desc := "(LMouldVotes$Growth;)V" } : Jvm.MethodName) prog_1_method_53_code (5 : Nat) (Option.none : Option Jvm.ClassFile.FieldType)) ∈ lw_all := lw_g (lw_at lw_m6 167 rfl) rfl
theorem q1488 : (Jvm.Cond.methodLink "MouldVotes" (280 : Nat) ({ cls := "MouldVotes", name := "draw", desc := "(I)I" } : Jvm.MethodName)) ∈ lw_all := lw_g (lw_at lw_m6 168 rfl) rfl
theorem q1489 : (Jvm.Cond.privateMethod ({ cls := "MouldVotes", name := "draw", desc := "(I)I" } : Jvm.MethodName)) ∈ lw_tbl := lw_at lw_m6 169 rfl
theorem q1490 : (Jvm.Cond.instanceMethod ({ cls := "MouldVotes", name := "draw", desc := "(I)I" } : Jvm.MethodName)) ∈ lw_all := lw_g (lw_at lw_m6 170 rfl) rfl
theorem q1491 : (Jvm.Cond.code ({ cls := "MouldVotes", name := "draw", desc := "(I)I" } : Jvm.MethodName) prog_1_method_52_code (2 : Nat) (Option.some Jvm.ClassFile.FieldType.int)) ∈ lw_all := lw_g (lw_at lw_m6 171 rfl) rfl
theorem q1492 : (Jvm.Cond.constant "MouldVotes" (279 : Nat) (1103515245 : Int32)) ∈ lw_all := lw_g (lw_at lw_m6 172 rfl) rfl
theorem q1497 : (Jvm.Cond.instanceMethod ({ cls := "MouldVotes", name := "fronts", desc := "(I)I" } : Jvm.MethodName)) ∈ lw_all := lw_g (lw_at lw_m6 177 rfl) rfl
theorem q1498 : (Jvm.Cond.selects "MouldVotes" ({ cls := "MouldVotes", name := "fronts", desc := "(I)I" } : Jvm.MethodName) ({ cls := "MouldVotes", name := "fronts", desc := "(I)I" } : Jvm.MethodName)) ∈ lw_all := lw_g (lw_at lw_m6 178 rfl) rfl
theorem q1499 : (Jvm.Cond.code ({ cls := "MouldVotes", name := "fronts", desc := "(I)I" } : Jvm.MethodName) prog_1_method_55_code (6 : Nat) (Option.some Jvm.ClassFile.FieldType.int)) ∈ lw_all := lw_g (lw_at lw_m6 179 rfl) rfl
theorem q1504 : (Jvm.Cond.instanceMethod ({ cls := "MouldVotes", name := "lost", desc := "(I)I" } : Jvm.MethodName)) ∈ lw_all := lw_g (lw_at lw_m6 184 rfl) rfl
theorem q1505 : (Jvm.Cond.selects "MouldVotes" ({ cls := "MouldVotes", name := "lost", desc := "(I)I" } : Jvm.MethodName) ({ cls := "MouldVotes", name := "lost", desc := "(I)I" } : Jvm.MethodName)) ∈ lw_all := lw_g (lw_at lw_m6 185 rfl) rfl
theorem q1506 : (Jvm.Cond.code ({ cls := "MouldVotes", name := "lost", desc := "(I)I" } : Jvm.MethodName) prog_1_method_56_code (5 : Nat) (Option.some Jvm.ClassFile.FieldType.int)) ∈ lw_all := lw_g (lw_at lw_m6 186 rfl) rfl
theorem q1511 : (Jvm.Cond.instanceMethod ({ cls := "MouldVotes", name := "starved", desc := "(I)I" } : Jvm.MethodName)) ∈ lw_all := lw_g (lw_at lw_m6 191 rfl) rfl
theorem q1512 : (Jvm.Cond.selects "MouldVotes" ({ cls := "MouldVotes", name := "starved", desc := "(I)I" } : Jvm.MethodName) ({ cls := "MouldVotes", name := "starved", desc := "(I)I" } : Jvm.MethodName)) ∈ lw_all := lw_g (lw_at lw_m6 192 rfl) rfl
theorem q1513 : (Jvm.Cond.code ({ cls := "MouldVotes", name := "starved", desc := "(I)I" } : Jvm.MethodName) prog_1_method_57_code (5 : Nat) (Option.some Jvm.ClassFile.FieldType.int)) ∈ lw_all := lw_g (lw_at lw_m6 193 rfl) rfl
theorem q1518 : (Jvm.Cond.instanceMethod ({ cls := "MouldVotes", name := "margin", desc := "(I)I" } : Jvm.MethodName)) ∈ lw_all := lw_g (lw_at lw_m6 198 rfl) rfl
theorem q1519 : (Jvm.Cond.selects "MouldVotes" ({ cls := "MouldVotes", name := "margin", desc := "(I)I" } : Jvm.MethodName) ({ cls := "MouldVotes", name := "margin", desc := "(I)I" } : Jvm.MethodName)) ∈ lw_all := lw_g (lw_at lw_m6 199 rfl) rfl
theorem q1520 : (Jvm.Cond.code ({ cls := "MouldVotes", name := "margin", desc := "(I)I" } : Jvm.MethodName) prog_1_method_58_code (6 : Nat) (Option.some Jvm.ClassFile.FieldType.int)) ∈ lw_all := lw_g (lw_at lw_m6 200 rfl) rfl
theorem q1525 : (Jvm.Cond.instanceMethod ({ cls := "MouldVotes", name := "patch", desc := "(I)I" } : Jvm.MethodName)) ∈ lw_all := lw_g (lw_at lw_m6 205 rfl) rfl
theorem q1526 : (Jvm.Cond.selects "MouldVotes" ({ cls := "MouldVotes", name := "patch", desc := "(I)I" } : Jvm.MethodName) ({ cls := "MouldVotes", name := "patch", desc := "(I)I" } : Jvm.MethodName)) ∈ lw_all := lw_g (lw_at lw_m6 206 rfl) rfl
theorem q1527 : (Jvm.Cond.code ({ cls := "MouldVotes", name := "patch", desc := "(I)I" } : Jvm.MethodName) prog_1_method_59_code (2 : Nat) (Option.some Jvm.ClassFile.FieldType.int)) ∈ lw_all := lw_g (lw_at lw_m6 207 rfl) rfl
theorem q1528 : (Jvm.Cond.methodLink "MouldVotes" (287 : Nat) ({ cls := "MouldVotes", name := "spread", desc := "(II)I" } : Jvm.MethodName)) ∈ lw_all := lw_g (lw_at lw_m6 208 rfl) rfl
theorem q1529 : (Jvm.Cond.privateMethod ({ cls := "MouldVotes", name := "spread", desc := "(II)I" } : Jvm.MethodName)) ∈ lw_tbl := lw_at lw_m6 209 rfl
theorem q1530 : (Jvm.Cond.instanceMethod ({ cls := "MouldVotes", name := "spread", desc := "(II)I" } : Jvm.MethodName)) ∈ lw_all := lw_g (lw_at lw_m6 210 rfl) rfl
theorem q1531 : (Jvm.Cond.code ({ cls := "MouldVotes", name := "spread", desc := "(II)I" } : Jvm.MethodName) prog_1_method_60_code (5 : Nat) (Option.some Jvm.ClassFile.FieldType.int)) ∈ lw_all := lw_g (lw_at lw_m6 211 rfl) rfl
theorem q1536 : (Jvm.Cond.instanceMethod ({ cls := "MouldVotes", name := "greatest", desc := "(II)I" } : Jvm.MethodName)) ∈ lw_all := lw_g (lw_at lw_m6 216 rfl) rfl
theorem q1537 : (Jvm.Cond.selects "MouldVotes" ({ cls := "MouldVotes", name := "greatest", desc := "(II)I" } : Jvm.MethodName) ({ cls := "MouldVotes", name := "greatest", desc := "(II)I" } : Jvm.MethodName)) ∈ lw_all := lw_g (lw_at lw_m6 217 rfl) rfl
theorem q1538 : (Jvm.Cond.code ({ cls := "MouldVotes", name := "greatest", desc := "(II)I" } : Jvm.MethodName) prog_1_method_61_code (7 : Nat) (Option.some Jvm.ClassFile.FieldType.int)) ∈ lw_all := lw_g (lw_at lw_m6 218 rfl) rfl
theorem q1543 : (Jvm.Cond.instanceMethod ({ cls := "MouldVotes", name := "keep", desc := "(I)I" } : Jvm.MethodName)) ∈ lw_all := lw_g (lw_at lw_m6 223 rfl) rfl
theorem q1544 : (Jvm.Cond.selects "MouldVotes" ({ cls := "MouldVotes", name := "keep", desc := "(I)I" } : Jvm.MethodName) ({ cls := "MouldVotes", name := "keep", desc := "(I)I" } : Jvm.MethodName)) ∈ lw_all := lw_g (lw_at lw_m6 224 rfl) rfl
theorem q1545 : (Jvm.Cond.code ({ cls := "MouldVotes", name := "keep", desc := "(I)I" } : Jvm.MethodName) prog_1_method_62_code (3 : Nat) (Option.some Jvm.ClassFile.FieldType.int)) ∈ lw_all := lw_g (lw_at lw_m6 225 rfl) rfl
theorem q1550 : (Jvm.Cond.instanceMethod ({ cls := "MouldVotes", name := "harm", desc := "(II)I" } : Jvm.MethodName)) ∈ lw_all := lw_g (lw_at lw_m6 230 rfl) rfl
theorem q1551 : (Jvm.Cond.selects "MouldVotes" ({ cls := "MouldVotes", name := "harm", desc := "(II)I" } : Jvm.MethodName) ({ cls := "MouldVotes", name := "harm", desc := "(II)I" } : Jvm.MethodName)) ∈ lw_all := lw_g (lw_at lw_m6 231 rfl) rfl
theorem q1552 : (Jvm.Cond.code ({ cls := "MouldVotes", name := "harm", desc := "(II)I" } : Jvm.MethodName) prog_1_method_63_code (7 : Nat) (Option.some Jvm.ClassFile.FieldType.int)) ∈ lw_all := lw_g (lw_at lw_m6 232 rfl) rfl
theorem q2238 : (Jvm.Cond.castable "MouldVotes" "java/lang/Object") ∈ lw_tbl := lw_at lw_m9 198 rfl
theorem q122 : (Jvm.Cond.initialized "MouldVotes$Roll") ∈ lw_all := lw_g (lw_at lw_m1 2 rfl) rfl
theorem q163 : (Jvm.Cond.instantiable "MouldVotes$Roll" (8 : Nat)) ∈ lw_all := lw_g (lw_at lw_m1 43 rfl) rfl
theorem q165 : (Jvm.Cond.instanceMethod ({ cls := "MouldVotes$Roll", name := "<init>", desc := "()V" } : Jvm.MethodName)) ∈ lw_all := lw_g (lw_at lw_m1 45 rfl) rfl
theorem q166 : (Jvm.Cond.code ({ cls := "MouldVotes$Roll", name := "<init>", desc := "()V" } : Jvm.MethodName) prog_8_method_1_code (1 : Nat) (Option.none : Option Jvm.ClassFile.FieldType)) ∈ lw_all := lw_g (lw_at lw_m1 46 rfl) rfl
theorem q167 : (Jvm.Cond.methodLink "MouldVotes$Roll" (1 : Nat) ({ cls := "java/lang/Object", name := "<init>", desc := "()V" } : Jvm.MethodName)) ∈ lw_all := lw_g (lw_at lw_m1 47 rfl) rfl
theorem q168 : (Jvm.Cond.classLink "MouldVotes$Roll" (7 : Nat) "java/util/ArrayList") ∈ lw_all := lw_g (lw_at lw_m1 48 rfl) rfl
theorem q170 : (Jvm.Cond.methodLink "MouldVotes$Roll" (9 : Nat) ({ cls := "java/util/ArrayList", name := "<init>", desc := "()V" } : Jvm.MethodName)) ∈ lw_all := lw_g (lw_at lw_m1 50 rfl) rfl
theorem q195 : (Jvm.Cond.fieldLink "MouldVotes$Roll" (10 : Nat) "MouldVotes$Roll" "parties" "Ljava/util/List;") ∈ lw_all := lw_g (lw_at lw_m1 75 rfl) rfl
theorem q199 : (Jvm.Cond.fieldLink "MouldVotes$Roll" (16 : Nat) "MouldVotes$Roll" "warmths" "Ljava/util/List;") ∈ lw_all := lw_g (lw_at lw_m1 79 rfl) rfl
theorem q201 : (Jvm.Cond.fieldLink "MouldVotes$Roll" (19 : Nat) "MouldVotes$Roll" "wide" "I") ∈ lw_all := lw_g (lw_at lw_m1 81 rfl) rfl
theorem q204 : (Jvm.Cond.fieldLink "MouldVotes$Roll" (23 : Nat) "MouldVotes$Roll" "high" "I") ∈ lw_all := lw_g (lw_at lw_m1 84 rfl) rfl
theorem q206 : (Jvm.Cond.fieldLink "MouldVotes$Roll" (26 : Nat) "MouldVotes$Roll" "age" "I") ∈ lw_all := lw_g (lw_at lw_m1 86 rfl) rfl
theorem q210 : (Jvm.Cond.fieldLink "MouldVotes$Roll" (29 : Nat) "MouldVotes$Roll" "spores" "I") ∈ lw_all := lw_g (lw_at lw_m1 90 rfl) rfl
theorem q218 : (Jvm.Cond.laysFinal "MouldVotes$Roll" "MouldVotes$Roll" "parties" "Ljava/util/List;") ∈ lw_all := lw_g (lw_at lw_m1 98 rfl) rfl
theorem q219 : (Jvm.Cond.soleField "MouldVotes$Roll" "parties") ∈ lw_all := lw_g (lw_at lw_m1 99 rfl) rfl
theorem q220 : (Jvm.Cond.laysFinal "MouldVotes$Roll" "MouldVotes$Roll" "warmths" "Ljava/util/List;") ∈ lw_all := lw_g (lw_at lw_m1 100 rfl) rfl
theorem q221 : (Jvm.Cond.soleField "MouldVotes$Roll" "warmths") ∈ lw_all := lw_g (lw_at lw_m1 101 rfl) rfl
theorem q222 : (Jvm.Cond.lays "MouldVotes$Roll" "MouldVotes$Roll" "wide" "I") ∈ lw_all := lw_g (lw_at lw_m1 102 rfl) rfl
theorem q223 : (Jvm.Cond.soleField "MouldVotes$Roll" "wide") ∈ lw_all := lw_g (lw_at lw_m1 103 rfl) rfl
theorem q224 : (Jvm.Cond.lays "MouldVotes$Roll" "MouldVotes$Roll" "high" "I") ∈ lw_all := lw_g (lw_at lw_m1 104 rfl) rfl
theorem q225 : (Jvm.Cond.soleField "MouldVotes$Roll" "high") ∈ lw_all := lw_g (lw_at lw_m1 105 rfl) rfl
theorem q226 : (Jvm.Cond.lays "MouldVotes$Roll" "MouldVotes$Roll" "age" "I") ∈ lw_all := lw_g (lw_at lw_m1 106 rfl) rfl
theorem q227 : (Jvm.Cond.soleField "MouldVotes$Roll" "age") ∈ lw_all := lw_g (lw_at lw_m1 107 rfl) rfl
theorem q228 : (Jvm.Cond.lays "MouldVotes$Roll" "MouldVotes$Roll" "spores" "I") ∈ lw_all := lw_g (lw_at lw_m1 108 rfl) rfl
theorem q229 : (Jvm.Cond.soleField "MouldVotes$Roll" "spores") ∈ lw_all := lw_g (lw_at lw_m1 109 rfl) rfl
theorem q230 : (Jvm.Cond.lays "MouldVotes$Roll" "MouldVotes$Roll" "grows" "LMouldVotes$Form;") ∈ lw_all := lw_g (lw_at lw_m1 110 rfl) rfl
theorem q231 : (Jvm.Cond.soleField "MouldVotes$Roll" "grows") ∈ lw_all := lw_g (lw_at lw_m1 111 rfl) rfl
theorem q232 : (Jvm.Cond.lays "MouldVotes$Roll" "MouldVotes$Roll" "beats" "LMouldVotes$Form;") ∈ lw_all := lw_g (lw_at lw_m1 112 rfl) rfl
theorem q233 : (Jvm.Cond.soleField "MouldVotes$Roll" "beats") ∈ lw_all := lw_g (lw_at lw_m1 113 rfl) rfl
theorem q234 : (Jvm.Cond.superclass "MouldVotes$Roll" "java/lang/Object") ∈ lw_all := lw_g (lw_at lw_m1 114 rfl) rfl
theorem q399 : (Jvm.Cond.selects "MouldVotes$Roll" ({ cls := "java/lang/Object", name := "getClass", desc := "()Ljava/lang/Class;" } : Jvm.MethodName) ({ cls := "java/lang/Object", name := "getClass", desc := "()Ljava/lang/Class;" } : Jvm.MethodName)) ∈ lw_all := lw_g (lw_at lw_m2 39 rfl) rfl
theorem q465 : (Jvm.Cond.instanceMethod ({ cls := "MouldVotes$Roll", name := "cells", desc := "()I" } : Jvm.MethodName)) ∈ lw_all := lw_g (lw_at lw_m2 105 rfl) rfl
theorem q466 : (Jvm.Cond.selects "MouldVotes$Roll" ({ cls := "MouldVotes$Roll", name := "cells", desc := "()I" } : Jvm.MethodName) ({ cls := "MouldVotes$Roll", name := "cells", desc := "()I" } : Jvm.MethodName)) ∈ lw_all := lw_g (lw_at lw_m2 106 rfl) rfl
theorem q467 : (Jvm.Cond.code ({ cls := "MouldVotes$Roll", name := "cells", desc := "()I" } : Jvm.MethodName) prog_8_method_2_code (1 : Nat) (Option.some Jvm.ClassFile.FieldType.int)) ∈ lw_all := lw_g (lw_at lw_m2 107 rfl) rfl
theorem q473 : (Jvm.Cond.instanceMethod ({ cls := "MouldVotes$Roll", name := "warmth", desc := "(I)I" } : Jvm.MethodName)) ∈ lw_all := lw_g (lw_at lw_m2 113 rfl) rfl
theorem q474 : (Jvm.Cond.selects "MouldVotes$Roll" ({ cls := "MouldVotes$Roll", name := "warmth", desc := "(I)I" } : Jvm.MethodName) ({ cls := "MouldVotes$Roll", name := "warmth", desc := "(I)I" } : Jvm.MethodName)) ∈ lw_all := lw_g (lw_at lw_m2 114 rfl) rfl
theorem q475 : (Jvm.Cond.code ({ cls := "MouldVotes$Roll", name := "warmth", desc := "(I)I" } : Jvm.MethodName) prog_8_method_3_code (2 : Nat) (Option.some Jvm.ClassFile.FieldType.int)) ∈ lw_all := lw_g (lw_at lw_m2 115 rfl) rfl
theorem q476 : (Jvm.Cond.interfaceEntry "MouldVotes$Roll" (32 : Nat)) ∈ lw_tbl := lw_at lw_m2 116 rfl
theorem q477 : (Jvm.Cond.methodLink "MouldVotes$Roll" (32 : Nat) ({ cls := "java/util/List", name := "isEmpty", desc := "()Z" } : Jvm.MethodName)) ∈ lw_all := lw_g (lw_at lw_m2 117 rfl) rfl
theorem q485 : (Jvm.Cond.interfaceEntry "MouldVotes$Roll" (38 : Nat)) ∈ lw_tbl := lw_at lw_m2 125 rfl
theorem q486 : (Jvm.Cond.methodLink "MouldVotes$Roll" (38 : Nat) ({ cls := "java/util/List", name := "size", desc := "()I" } : Jvm.MethodName)) ∈ lw_all := lw_g (lw_at lw_m2 126 rfl) rfl
theorem q487 : (Jvm.Cond.interfaceEntry "MouldVotes$Roll" (42 : Nat)) ∈ lw_tbl := lw_at lw_m2 127 rfl
theorem q488 : (Jvm.Cond.methodLink "MouldVotes$Roll" (42 : Nat) ({ cls := "java/util/List", name := "get", desc := "(I)Ljava/lang/Object;" } : Jvm.MethodName)) ∈ lw_all := lw_g (lw_at lw_m2 128 rfl) rfl
theorem q500 : (Jvm.Cond.classLink "MouldVotes$Roll" (46 : Nat) "java/lang/Integer") ∈ lw_all := lw_g (lw_at lw_m2 140 rfl) rfl
theorem q501 : (Jvm.Cond.methodLink "MouldVotes$Roll" (48 : Nat) ({ cls := "java/lang/Integer", name := "intValue", desc := "()I" } : Jvm.MethodName)) ∈ lw_all := lw_g (lw_at lw_m2 141 rfl) rfl
theorem q513 : (Jvm.Cond.instanceMethod ({ cls := "MouldVotes$Roll", name := "steps", desc := "(II)I" } : Jvm.MethodName)) ∈ lw_all := lw_g (lw_at lw_m2 153 rfl) rfl
theorem q514 : (Jvm.Cond.selects "MouldVotes$Roll" ({ cls := "MouldVotes$Roll", name := "steps", desc := "(II)I" } : Jvm.MethodName) ({ cls := "MouldVotes$Roll", name := "steps", desc := "(II)I" } : Jvm.MethodName)) ∈ lw_all := lw_g (lw_at lw_m2 154 rfl) rfl
theorem q515 : (Jvm.Cond.code ({ cls := "MouldVotes$Roll", name := "steps", desc := "(II)I" } : Jvm.MethodName) prog_8_method_4_code (3 : Nat) (Option.some Jvm.ClassFile.FieldType.int)) ∈ lw_all := lw_g (lw_at lw_m2 155 rfl) rfl
theorem q516 : (Jvm.Cond.methodLink "MouldVotes$Roll" (51 : Nat) ({ cls := "java/lang/Math", name := "abs", desc := "(I)I" } : Jvm.MethodName)) ∈ lw_all := lw_g (lw_at lw_m2 156 rfl) rfl
theorem q2239 : (Jvm.Cond.castable "MouldVotes$Roll" "java/lang/Object") ∈ lw_tbl := lw_at lw_m9 199 rfl
theorem q126 : (Jvm.Cond.initialized "MouldVotes$Growth") ∈ lw_all := lw_g (lw_at lw_m1 6 rfl) rfl
theorem q197 : (Jvm.Cond.fieldLinkNest "MouldVotes$Growth" (128 : Nat) "MouldVotes$Roll" "parties" "Ljava/util/List;" "MouldVotes") ∈ lw_tbl := lw_at lw_m1 77 rfl
theorem q208 : (Jvm.Cond.fieldLinkNest "MouldVotes$Growth" (121 : Nat) "MouldVotes$Roll" "age" "I" "MouldVotes") ∈ lw_tbl := lw_at lw_m1 88 rfl
theorem q211 : (Jvm.Cond.fieldLinkNest "MouldVotes$Growth" (94 : Nat) "MouldVotes$Roll" "spores" "I" "MouldVotes") ∈ lw_tbl := lw_at lw_m1 91 rfl
theorem q214 : (Jvm.Cond.fieldLinkNest "MouldVotes$Growth" (62 : Nat) "MouldVotes$Roll" "grows" "LMouldVotes$Form;" "MouldVotes") ∈ lw_tbl := lw_at lw_m1 94 rfl
theorem q216 : (Jvm.Cond.fieldLinkNest "MouldVotes$Growth" (85 : Nat) "MouldVotes$Roll" "beats" "LMouldVotes$Form;" "MouldVotes") ∈ lw_tbl := lw_at lw_m1 96 rfl
theorem q236 : (Jvm.Cond.instantiable "MouldVotes$Growth" (6 : Nat)) ∈ lw_all := lw_g (lw_at lw_m1 116 rfl) rfl
theorem q238 : (Jvm.Cond.instanceMethod ({ cls := "MouldVotes$Growth", name := "<init>", desc := "(LMouldVotes;)V" } : Jvm.MethodName)) ∈ lw_all := lw_g (lw_at lw_m1 118 rfl) rfl
theorem q239 : (Jvm.Cond.code ({ cls := "MouldVotes$Growth", name := "<init>", desc := "(LMouldVotes;)V" } : Jvm.MethodName) prog_4_method_1_code (3 : Nat) (Option.none : Option Jvm.ClassFile.FieldType)) ∈ lw_all := lw_g (lw_at lw_m1 119 rfl) rfl
theorem q240 : (Jvm.Cond.methodLink "MouldVotes$Growth" (9 : Nat) ({ cls := "java/lang/Object", name := "<init>", desc := "()V" } : Jvm.MethodName)) ∈ lw_all := lw_g (lw_at lw_m1 120 rfl) rfl
theorem q241 : (Jvm.Cond.fieldLink "MouldVotes$Growth" (15 : Nat) "MouldVotes$Growth" "damp" "[I") ∈ lw_all := lw_g (lw_at lw_m1 121 rfl) rfl
theorem q244 : (Jvm.Cond.fieldLink "MouldVotes$Growth" (19 : Nat) "MouldVotes$Growth" "food" "[I") ∈ lw_all := lw_g (lw_at lw_m1 124 rfl) rfl
theorem q247 : (Jvm.Cond.fieldLink "MouldVotes$Growth" (22 : Nat) "MouldVotes$Growth" "kind" "[I") ∈ lw_all := lw_g (lw_at lw_m1 127 rfl) rfl
theorem q250 : (Jvm.Cond.fieldLink "MouldVotes$Growth" (25 : Nat) "MouldVotes$Growth" "size" "[I") ∈ lw_all := lw_g (lw_at lw_m1 130 rfl) rfl
theorem q253 : (Jvm.Cond.fieldLink "MouldVotes$Growth" (35 : Nat) "MouldVotes$Growth" "day" "I") ∈ lw_all := lw_g (lw_at lw_m1 133 rfl) rfl
theorem q255 : (Jvm.Cond.fieldLink "MouldVotes$Growth" (3 : Nat) "MouldVotes$Growth" "this$0" "LMouldVotes;") ∈ lw_all := lw_g (lw_at lw_m1 135 rfl) rfl
theorem q256 : (Jvm.Cond.laysFinal "MouldVotes$Growth" "MouldVotes$Growth" "damp" "[I") ∈ lw_all := lw_g (lw_at lw_m1 136 rfl) rfl
theorem q257 : (Jvm.Cond.soleField "MouldVotes$Growth" "damp") ∈ lw_all := lw_g (lw_at lw_m1 137 rfl) rfl
theorem q258 : (Jvm.Cond.laysFinal "MouldVotes$Growth" "MouldVotes$Growth" "food" "[I") ∈ lw_all := lw_g (lw_at lw_m1 138 rfl) rfl
theorem q259 : (Jvm.Cond.soleField "MouldVotes$Growth" "food") ∈ lw_all := lw_g (lw_at lw_m1 139 rfl) rfl
theorem q260 : (Jvm.Cond.laysFinal "MouldVotes$Growth" "MouldVotes$Growth" "kind" "[I") ∈ lw_all := lw_g (lw_at lw_m1 140 rfl) rfl
theorem q261 : (Jvm.Cond.soleField "MouldVotes$Growth" "kind") ∈ lw_all := lw_g (lw_at lw_m1 141 rfl) rfl
theorem q262 : (Jvm.Cond.laysFinal "MouldVotes$Growth" "MouldVotes$Growth" "size" "[I") ∈ lw_all := lw_g (lw_at lw_m1 142 rfl) rfl
theorem q263 : (Jvm.Cond.soleField "MouldVotes$Growth" "size") ∈ lw_all := lw_g (lw_at lw_m1 143 rfl) rfl
theorem q264 : (Jvm.Cond.lays "MouldVotes$Growth" "MouldVotes$Growth" "day" "I") ∈ lw_all := lw_g (lw_at lw_m1 144 rfl) rfl
theorem q265 : (Jvm.Cond.soleField "MouldVotes$Growth" "day") ∈ lw_all := lw_g (lw_at lw_m1 145 rfl) rfl
theorem q266 : (Jvm.Cond.laysFinal "MouldVotes$Growth" "MouldVotes$Growth" "this$0" "LMouldVotes;") ∈ lw_all := lw_g (lw_at lw_m1 146 rfl) rfl
theorem q267 : (Jvm.Cond.soleField "MouldVotes$Growth" "this$0") ∈ lw_all := lw_g (lw_at lw_m1 147 rfl) rfl
theorem q268 : (Jvm.Cond.superclass "MouldVotes$Growth" "java/lang/Object") ∈ lw_all := lw_g (lw_at lw_m1 148 rfl) rfl
theorem q272 : (Jvm.Cond.fieldLinkNest "MouldVotes$Growth" (66 : Nat) "MouldVotes" "values" "[I" "MouldVotes") ∈ lw_tbl := lw_at lw_m1 152 rfl
theorem q273 : (Jvm.Cond.fieldLinkNest "MouldVotes$Growth" (39 : Nat) "MouldVotes" "roll" "LMouldVotes$Roll;" "MouldVotes") ∈ lw_tbl := lw_at lw_m1 153 rfl
theorem q276 : (Jvm.Cond.fieldLinkNest "MouldVotes$Growth" (103 : Nat) "MouldVotes" "before" "LMouldVotes$Growth;" "MouldVotes") ∈ lw_tbl := lw_at lw_m1 156 rfl
theorem q346 : (Jvm.Cond.instanceMethod ({ cls := "MouldVotes$Growth", name := "copy", desc := "()LMouldVotes$Growth;" } : Jvm.MethodName)) ∈ lw_all := lw_g (lw_at lw_m1 226 rfl) rfl
theorem q347 : (Jvm.Cond.selects "MouldVotes$Growth" ({ cls := "MouldVotes$Growth", name := "copy", desc := "()LMouldVotes$Growth;" } : Jvm.MethodName) ({ cls := "MouldVotes$Growth", name := "copy", desc := "()LMouldVotes$Growth;" } : Jvm.MethodName)) ∈ lw_all := lw_g (lw_at lw_m1 227 rfl) rfl
theorem q348 : (Jvm.Cond.code ({ cls := "MouldVotes$Growth", name := "copy", desc := "()LMouldVotes$Growth;" } : Jvm.MethodName) prog_4_method_2_code (1 : Nat) (Option.some (Jvm.ClassFile.FieldType.object "MouldVotes$Growth"))) ∈ lw_all := lw_g (lw_at lw_m1 228 rfl) rfl
theorem q349 : (Jvm.Cond.classLink "MouldVotes$Growth" (4 : Nat) "MouldVotes$Growth") ∈ lw_all := lw_g (lw_at lw_m1 229 rfl) rfl
theorem q350 : (Jvm.Cond.methodLink "MouldVotes$Growth" (28 : Nat) ({ cls := "MouldVotes$Growth", name := "<init>", desc := "(LMouldVotes;)V" } : Jvm.MethodName)) ∈ lw_all := lw_g (lw_at lw_m1 230 rfl) rfl
theorem q351 : (Jvm.Cond.methodLink "MouldVotes$Growth" (31 : Nat) ({ cls := "MouldVotes$Growth", name := "be", desc := "(LMouldVotes$Growth;)LMouldVotes$Growth;" } : Jvm.MethodName)) ∈ lw_all := lw_g (lw_at lw_m1 231 rfl) rfl
theorem q352 : (Jvm.Cond.instanceMethod ({ cls := "MouldVotes$Growth", name := "be", desc := "(LMouldVotes$Growth;)LMouldVotes$Growth;" } : Jvm.MethodName)) ∈ lw_all := lw_g (lw_at lw_m1 232 rfl) rfl
theorem q353 : (Jvm.Cond.selects "MouldVotes$Growth" ({ cls := "MouldVotes$Growth", name := "be", desc := "(LMouldVotes$Growth;)LMouldVotes$Growth;" } : Jvm.MethodName) ({ cls := "MouldVotes$Growth", name := "be", desc := "(LMouldVotes$Growth;)LMouldVotes$Growth;" } : Jvm.MethodName)) ∈ lw_all := lw_g (lw_at lw_m1 233 rfl) rfl
theorem q354 : (Jvm.Cond.code ({ cls := "MouldVotes$Growth", name := "be", desc := "(LMouldVotes$Growth;)LMouldVotes$Growth;" } : Jvm.MethodName) prog_4_method_3_code (3 : Nat) (Option.some (Jvm.ClassFile.FieldType.object "MouldVotes$Growth"))) ∈ lw_all := lw_g (lw_at lw_m1 234 rfl) rfl
theorem q395 : (Jvm.Cond.selects "MouldVotes$Growth" ({ cls := "java/lang/Object", name := "getClass", desc := "()Ljava/lang/Class;" } : Jvm.MethodName) ({ cls := "java/lang/Object", name := "getClass", desc := "()Ljava/lang/Class;" } : Jvm.MethodName)) ∈ lw_all := lw_g (lw_at lw_m2 35 rfl) rfl
theorem q453 : (Jvm.Cond.instanceMethod ({ cls := "MouldVotes$Growth", name := "after", desc := "(I)LMouldVotes$Growth;" } : Jvm.MethodName)) ∈ lw_all := lw_g (lw_at lw_m2 93 rfl) rfl
theorem q454 : (Jvm.Cond.selects "MouldVotes$Growth" ({ cls := "MouldVotes$Growth", name := "after", desc := "(I)LMouldVotes$Growth;" } : Jvm.MethodName) ({ cls := "MouldVotes$Growth", name := "after", desc := "(I)LMouldVotes$Growth;" } : Jvm.MethodName)) ∈ lw_all := lw_g (lw_at lw_m2 94 rfl) rfl
theorem q455 : (Jvm.Cond.code ({ cls := "MouldVotes$Growth", name := "after", desc := "(I)LMouldVotes$Growth;" } : Jvm.MethodName) prog_4_method_13_code (3 : Nat) (Option.some (Jvm.ClassFile.FieldType.object "MouldVotes$Growth"))) ∈ lw_all := lw_g (lw_at lw_m2 95 rfl) rfl
theorem q456 : (Jvm.Cond.methodLink "MouldVotes$Growth" (117 : Nat) ({ cls := "MouldVotes$Growth", name := "pass", desc := "()LMouldVotes$Growth;" } : Jvm.MethodName)) ∈ lw_all := lw_g (lw_at lw_m2 96 rfl) rfl
theorem q457 : (Jvm.Cond.instanceMethod ({ cls := "MouldVotes$Growth", name := "pass", desc := "()LMouldVotes$Growth;" } : Jvm.MethodName)) ∈ lw_all := lw_g (lw_at lw_m2 97 rfl) rfl
theorem q458 : (Jvm.Cond.selects "MouldVotes$Growth" ({ cls := "MouldVotes$Growth", name := "pass", desc := "()LMouldVotes$Growth;" } : Jvm.MethodName) ({ cls := "MouldVotes$Growth", name := "pass", desc := "()LMouldVotes$Growth;" } : Jvm.MethodName)) ∈ lw_all := lw_g (lw_at lw_m2 98 rfl) rfl
theorem q459 : (Jvm.Cond.code ({ cls := "MouldVotes$Growth", name := "pass", desc := "()LMouldVotes$Growth;" } : Jvm.MethodName) prog_4_method_12_code (1 : Nat) (Option.some (Jvm.ClassFile.FieldType.object "MouldVotes$Growth"))) ∈ lw_all := lw_g (lw_at lw_m2 99 rfl) rfl
theorem q460 : (Jvm.Cond.methodLink "MouldVotes$Growth" (107 : Nat) ({ cls := "MouldVotes$Growth", name := "grow", desc := "(LMouldVotes$Growth;)V" } : Jvm.MethodName)) ∈ lw_all := lw_g (lw_at lw_m2 100 rfl) rfl
theorem q461 : (Jvm.Cond.privateMethod ({ cls := "MouldVotes$Growth", name := "grow", desc := "(LMouldVotes$Growth;)V" } : Jvm.MethodName)) ∈ lw_tbl := lw_at lw_m2 101 rfl
theorem q462 : (Jvm.Cond.instanceMethod ({ cls := "MouldVotes$Growth", name := "grow", desc := "(LMouldVotes$Growth;)V" } : Jvm.MethodName)) ∈ lw_all := lw_g (lw_at lw_m2 102 rfl) rfl
theorem q463 : (Jvm.Cond.code ({ cls := "MouldVotes$Growth", name := "grow", desc := "(LMouldVotes$Growth;)V" } : Jvm.MethodName) prog_4_method_8_code (4 : Nat) (Option.none : Option Jvm.ClassFile.FieldType)) ∈ lw_all := lw_g (lw_at lw_m2 103 rfl) rfl
theorem q464 : (Jvm.Cond.methodLink "MouldVotes$Growth" (43 : Nat) ({ cls := "MouldVotes$Roll", name := "cells", desc := "()I" } : Jvm.MethodName)) ∈ lw_all := lw_g (lw_at lw_m2 104 rfl) rfl
theorem q468 : (Jvm.Cond.methodLink "MouldVotes$Growth" (88 : Nat) ({ cls := "MouldVotes$Growth", name := "grows", desc := "(I)I" } : Jvm.MethodName)) ∈ lw_all := lw_g (lw_at lw_m2 108 rfl) rfl
theorem q469 : (Jvm.Cond.instanceMethod ({ cls := "MouldVotes$Growth", name := "grows", desc := "(I)I" } : Jvm.MethodName)) ∈ lw_all := lw_g (lw_at lw_m2 109 rfl) rfl
theorem q470 : (Jvm.Cond.selects "MouldVotes$Growth" ({ cls := "MouldVotes$Growth", name := "grows", desc := "(I)I" } : Jvm.MethodName) ({ cls := "MouldVotes$Growth", name := "grows", desc := "(I)I" } : Jvm.MethodName)) ∈ lw_all := lw_g (lw_at lw_m2 110 rfl) rfl
theorem q471 : (Jvm.Cond.code ({ cls := "MouldVotes$Growth", name := "grows", desc := "(I)I" } : Jvm.MethodName) prog_4_method_5_code (3 : Nat) (Option.some Jvm.ClassFile.FieldType.int)) ∈ lw_all := lw_g (lw_at lw_m2 111 rfl) rfl
theorem q472 : (Jvm.Cond.methodLink "MouldVotes$Growth" (53 : Nat) ({ cls := "MouldVotes$Roll", name := "warmth", desc := "(I)I" } : Jvm.MethodName)) ∈ lw_all := lw_g (lw_at lw_m2 112 rfl) rfl
theorem q505 : (Jvm.Cond.methodLink "MouldVotes$Growth" (57 : Nat) ({ cls := "java/lang/Math", name := "abs", desc := "(I)I" } : Jvm.MethodName)) ∈ lw_all := lw_g (lw_at lw_m2 145 rfl) rfl
theorem q508 : (Jvm.Cond.methodLink "MouldVotes$Growth" (69 : Nat) ({ cls := "MouldVotes$Growth", name := "beside", desc := "(IZ)I" } : Jvm.MethodName)) ∈ lw_all := lw_g (lw_at lw_m2 148 rfl) rfl
theorem q509 : (Jvm.Cond.privateMethod ({ cls := "MouldVotes$Growth", name := "beside", desc := "(IZ)I" } : Jvm.MethodName)) ∈ lw_tbl := lw_at lw_m2 149 rfl
theorem q510 : (Jvm.Cond.instanceMethod ({ cls := "MouldVotes$Growth", name := "beside", desc := "(IZ)I" } : Jvm.MethodName)) ∈ lw_all := lw_g (lw_at lw_m2 150 rfl) rfl
theorem q511 : (Jvm.Cond.code ({ cls := "MouldVotes$Growth", name := "beside", desc := "(IZ)I" } : Jvm.MethodName) prog_4_method_4_code (5 : Nat) (Option.some Jvm.ClassFile.FieldType.int)) ∈ lw_all := lw_g (lw_at lw_m2 151 rfl) rfl
theorem q512 : (Jvm.Cond.methodLink "MouldVotes$Growth" (49 : Nat) ({ cls := "MouldVotes$Roll", name := "steps", desc := "(II)I" } : Jvm.MethodName)) ∈ lw_all := lw_g (lw_at lw_m2 152 rfl) rfl
theorem q517 : (Jvm.Cond.interfaceEntry "MouldVotes$Growth" (73 : Nat)) ∈ lw_tbl := lw_at lw_m2 157 rfl
theorem q518 : (Jvm.Cond.methodLink "MouldVotes$Growth" (73 : Nat) ({ cls := "MouldVotes$Form", name := "of", desc := "([I)I" } : Jvm.MethodName)) ∈ lw_all := lw_g (lw_at lw_m2 158 rfl) rfl
theorem q584 : (Jvm.Cond.methodLink "MouldVotes$Growth" (79 : Nat) ({ cls := "java/lang/Math", name := "min", desc := "(II)I" } : Jvm.MethodName)) ∈ lw_all := lw_g (lw_at lw_m2 224 rfl) rfl
theorem q585 : (Jvm.Cond.methodLink "MouldVotes$Growth" (82 : Nat) ({ cls := "java/lang/Math", name := "max", desc := "(II)I" } : Jvm.MethodName)) ∈ lw_all := lw_g (lw_at lw_m2 225 rfl) rfl
theorem q586 : (Jvm.Cond.methodLink "MouldVotes$Growth" (90 : Nat) ({ cls := "MouldVotes$Growth", name := "clear", desc := "(I)V" } : Jvm.MethodName)) ∈ lw_all := lw_g (lw_at lw_m2 226 rfl) rfl
theorem q587 : (Jvm.Cond.instanceMethod ({ cls := "MouldVotes$Growth", name := "clear", desc := "(I)V" } : Jvm.MethodName)) ∈ lw_all := lw_g (lw_at lw_m2 227 rfl) rfl
theorem q588 : (Jvm.Cond.selects "MouldVotes$Growth" ({ cls := "MouldVotes$Growth", name := "clear", desc := "(I)V" } : Jvm.MethodName) ({ cls := "MouldVotes$Growth", name := "clear", desc := "(I)V" } : Jvm.MethodName)) ∈ lw_all := lw_g (lw_at lw_m2 228 rfl) rfl
theorem q589 : (Jvm.Cond.code ({ cls := "MouldVotes$Growth", name := "clear", desc := "(I)V" } : Jvm.MethodName) prog_4_method_7_code (2 : Nat) (Option.none : Option Jvm.ClassFile.FieldType)) ∈ lw_all := lw_g (lw_at lw_m2 229 rfl) rfl
theorem q590 : (Jvm.Cond.methodLink "MouldVotes$Growth" (111 : Nat) ({ cls := "MouldVotes$Growth", name := "fight", desc := "(LMouldVotes$Growth;)V" } : Jvm.MethodName)) ∈ lw_all := lw_g (lw_at lw_m2 230 rfl) rfl
theorem q591 : (Jvm.Cond.privateMethod ({ cls := "MouldVotes$Growth", name := "fight", desc := "(LMouldVotes$Growth;)V" } : Jvm.MethodName)) ∈ lw_tbl := lw_at lw_m2 231 rfl
theorem q592 : (Jvm.Cond.instanceMethod ({ cls := "MouldVotes$Growth", name := "fight", desc := "(LMouldVotes$Growth;)V" } : Jvm.MethodName)) ∈ lw_all := lw_g (lw_at lw_m2 232 rfl) rfl
theorem q593 : (Jvm.Cond.code ({ cls := "MouldVotes$Growth", name := "fight", desc := "(LMouldVotes$Growth;)V" } : Jvm.MethodName) prog_4_method_10_code (4 : Nat) (Option.none : Option Jvm.ClassFile.FieldType)) ∈ lw_all := lw_g (lw_at lw_m2 233 rfl) rfl
theorem q594 : (Jvm.Cond.methodLink "MouldVotes$Growth" (100 : Nat) ({ cls := "MouldVotes$Growth", name := "greatest", desc := "(I)I" } : Jvm.MethodName)) ∈ lw_all := lw_g (lw_at lw_m2 234 rfl) rfl
theorem q595 : (Jvm.Cond.privateMethod ({ cls := "MouldVotes$Growth", name := "greatest", desc := "(I)I" } : Jvm.MethodName)) ∈ lw_tbl := lw_at lw_m2 235 rfl
theorem q596 : (Jvm.Cond.instanceMethod ({ cls := "MouldVotes$Growth", name := "greatest", desc := "(I)I" } : Jvm.MethodName)) ∈ lw_all := lw_g (lw_at lw_m2 236 rfl) rfl
theorem q597 : (Jvm.Cond.code ({ cls := "MouldVotes$Growth", name := "greatest", desc := "(I)I" } : Jvm.MethodName) prog_4_method_9_code (5 : Nat) (Option.some Jvm.ClassFile.FieldType.int)) ∈ lw_all := lw_g (lw_at lw_m2 237 rfl) rfl
theorem q598 : (Jvm.Cond.methodLink "MouldVotes$Growth" (97 : Nat) ({ cls := "MouldVotes$Growth", name := "beats", desc := "(II)Z" } : Jvm.MethodName)) ∈ lw_all := lw_g (lw_at lw_m2 238 rfl) rfl
theorem q599 : (Jvm.Cond.privateMethod ({ cls := "MouldVotes$Growth", name := "beats", desc := "(II)Z" } : Jvm.MethodName)) ∈ lw_tbl := lw_at lw_m2 239 rfl
theorem q600 : (Jvm.Cond.instanceMethod ({ cls := "MouldVotes$Growth", name := "beats", desc := "(II)Z" } : Jvm.MethodName)) ∈ lw_all := lw_g (lw_at lw_m3 0 rfl) rfl
theorem q601 : (Jvm.Cond.code ({ cls := "MouldVotes$Growth", name := "beats", desc := "(II)Z" } : Jvm.MethodName) prog_4_method_6_code (3 : Nat) (Option.some Jvm.ClassFile.FieldType.boolean)) ∈ lw_all := lw_g (lw_at lw_m3 1 rfl) rfl
theorem q602 : (Jvm.Cond.methodLink "MouldVotes$Growth" (114 : Nat) ({ cls := "MouldVotes$Growth", name := "sow", desc := "(LMouldVotes$Growth;)V" } : Jvm.MethodName)) ∈ lw_all := lw_g (lw_at lw_m3 2 rfl) rfl
theorem q603 : (Jvm.Cond.privateMethod ({ cls := "MouldVotes$Growth", name := "sow", desc := "(LMouldVotes$Growth;)V" } : Jvm.MethodName)) ∈ lw_tbl := lw_at lw_m3 3 rfl
theorem q604 : (Jvm.Cond.instanceMethod ({ cls := "MouldVotes$Growth", name := "sow", desc := "(LMouldVotes$Growth;)V" } : Jvm.MethodName)) ∈ lw_all := lw_g (lw_at lw_m3 4 rfl) rfl
theorem q605 : (Jvm.Cond.code ({ cls := "MouldVotes$Growth", name := "sow", desc := "(LMouldVotes$Growth;)V" } : Jvm.MethodName) prog_4_method_11_code (4 : Nat) (Option.none : Option Jvm.ClassFile.FieldType)) ∈ lw_all := lw_g (lw_at lw_m3 5 rfl) rfl
theorem q628 : (Jvm.Cond.instanceMethod ({ cls := "MouldVotes$Growth", name := "isVoter", desc := "(I)Z" } : Jvm.MethodName)) ∈ lw_all := lw_g (lw_at lw_m3 28 rfl) rfl
theorem q629 : (Jvm.Cond.selects "MouldVotes$Growth" ({ cls := "MouldVotes$Growth", name := "isVoter", desc := "(I)Z" } : Jvm.MethodName) ({ cls := "MouldVotes$Growth", name := "isVoter", desc := "(I)Z" } : Jvm.MethodName)) ∈ lw_all := lw_g (lw_at lw_m3 29 rfl) rfl
theorem q630 : (Jvm.Cond.code ({ cls := "MouldVotes$Growth", name := "isVoter", desc := "(I)Z" } : Jvm.MethodName) prog_4_method_15_code (2 : Nat) (Option.some Jvm.ClassFile.FieldType.boolean)) ∈ lw_all := lw_g (lw_at lw_m3 30 rfl) rfl
theorem q675 : (Jvm.Cond.instanceMethod ({ cls := "MouldVotes$Growth", name := "votesOf", desc := "(I)I" } : Jvm.MethodName)) ∈ lw_all := lw_g (lw_at lw_m3 75 rfl) rfl
theorem q676 : (Jvm.Cond.selects "MouldVotes$Growth" ({ cls := "MouldVotes$Growth", name := "votesOf", desc := "(I)I" } : Jvm.MethodName) ({ cls := "MouldVotes$Growth", name := "votesOf", desc := "(I)I" } : Jvm.MethodName)) ∈ lw_all := lw_g (lw_at lw_m3 76 rfl) rfl
theorem q677 : (Jvm.Cond.code ({ cls := "MouldVotes$Growth", name := "votesOf", desc := "(I)I" } : Jvm.MethodName) prog_4_method_18_code (4 : Nat) (Option.some Jvm.ClassFile.FieldType.int)) ∈ lw_all := lw_g (lw_at lw_m3 77 rfl) rfl
theorem q678 : (Jvm.Cond.methodLinkNest "MouldVotes$Growth" (146 : Nat) ({ cls := "MouldVotes", name := "isOf", desc := "(II)Z" } : Jvm.MethodName) "MouldVotes") ∈ lw_tbl := lw_at lw_m3 78 rfl
theorem q679 : (Jvm.Cond.methodLink "MouldVotes$Growth" (143 : Nat) ({ cls := "MouldVotes$Growth", name := "votes", desc := "(I)I" } : Jvm.MethodName)) ∈ lw_all := lw_g (lw_at lw_m3 79 rfl) rfl
theorem q680 : (Jvm.Cond.instanceMethod ({ cls := "MouldVotes$Growth", name := "votes", desc := "(I)I" } : Jvm.MethodName)) ∈ lw_all := lw_g (lw_at lw_m3 80 rfl) rfl
theorem q681 : (Jvm.Cond.selects "MouldVotes$Growth" ({ cls := "MouldVotes$Growth", name := "votes", desc := "(I)I" } : Jvm.MethodName) ({ cls := "MouldVotes$Growth", name := "votes", desc := "(I)I" } : Jvm.MethodName)) ∈ lw_all := lw_g (lw_at lw_m3 81 rfl) rfl
theorem q682 : (Jvm.Cond.code ({ cls := "MouldVotes$Growth", name := "votes", desc := "(I)I" } : Jvm.MethodName) prog_4_method_16_code (4 : Nat) (Option.some Jvm.ClassFile.FieldType.int)) ∈ lw_all := lw_g (lw_at lw_m3 82 rfl) rfl
theorem q683 : (Jvm.Cond.methodLink "MouldVotes$Growth" (124 : Nat) ({ cls := "MouldVotes$Growth", name := "isVoter", desc := "(I)Z" } : Jvm.MethodName)) ∈ lw_all := lw_g (lw_at lw_m3 83 rfl) rfl
theorem q684 : (Jvm.Cond.interfaceEntry "MouldVotes$Growth" (132 : Nat)) ∈ lw_tbl := lw_at lw_m3 84 rfl
theorem q685 : (Jvm.Cond.methodLink "MouldVotes$Growth" (132 : Nat) ({ cls := "java/util/List", name := "get", desc := "(I)Ljava/lang/Object;" } : Jvm.MethodName)) ∈ lw_all := lw_g (lw_at lw_m3 85 rfl) rfl
theorem q686 : (Jvm.Cond.classLink "MouldVotes$Growth" (138 : Nat) "java/lang/Integer") ∈ lw_all := lw_g (lw_at lw_m3 86 rfl) rfl
theorem q687 : (Jvm.Cond.methodLink "MouldVotes$Growth" (140 : Nat) ({ cls := "java/lang/Integer", name := "intValue", desc := "()I" } : Jvm.MethodName)) ∈ lw_all := lw_g (lw_at lw_m3 87 rfl) rfl
theorem q1265 : (Jvm.Cond.instanceMethod ({ cls := "MouldVotes$Growth", name := "winner", desc := "()I" } : Jvm.MethodName)) ∈ lw_all := lw_g (lw_at lw_m5 185 rfl) rfl
theorem q1266 : (Jvm.Cond.selects "MouldVotes$Growth" ({ cls := "MouldVotes$Growth", name := "winner", desc := "()I" } : Jvm.MethodName) ({ cls := "MouldVotes$Growth", name := "winner", desc := "()I" } : Jvm.MethodName)) ∈ lw_all := lw_g (lw_at lw_m5 186 rfl) rfl
theorem q1267 : (Jvm.Cond.code ({ cls := "MouldVotes$Growth", name := "winner", desc := "()I" } : Jvm.MethodName) prog_4_method_17_code (4 : Nat) (Option.some Jvm.ClassFile.FieldType.int)) ∈ lw_all := lw_g (lw_at lw_m5 187 rfl) rfl
theorem q1331 : (Jvm.Cond.instanceMethod ({ cls := "MouldVotes$Growth", name := "feed", desc := "(II)V" } : Jvm.MethodName)) ∈ lw_all := lw_g (lw_at lw_m6 11 rfl) rfl
theorem q1332 : (Jvm.Cond.selects "MouldVotes$Growth" ({ cls := "MouldVotes$Growth", name := "feed", desc := "(II)V" } : Jvm.MethodName) ({ cls := "MouldVotes$Growth", name := "feed", desc := "(II)V" } : Jvm.MethodName)) ∈ lw_all := lw_g (lw_at lw_m6 12 rfl) rfl
theorem q1333 : (Jvm.Cond.code ({ cls := "MouldVotes$Growth", name := "feed", desc := "(II)V" } : Jvm.MethodName) prog_4_method_19_code (3 : Nat) (Option.none : Option Jvm.ClassFile.FieldType)) ∈ lw_all := lw_g (lw_at lw_m6 13 rfl) rfl
theorem q1410 : (Jvm.Cond.instanceMethod ({ cls := "MouldVotes$Growth", name := "frost", desc := "()V" } : Jvm.MethodName)) ∈ lw_all := lw_g (lw_at lw_m6 90 rfl) rfl
theorem q1411 : (Jvm.Cond.selects "MouldVotes$Growth" ({ cls := "MouldVotes$Growth", name := "frost", desc := "()V" } : Jvm.MethodName) ({ cls := "MouldVotes$Growth", name := "frost", desc := "()V" } : Jvm.MethodName)) ∈ lw_all := lw_g (lw_at lw_m6 91 rfl) rfl
theorem q1412 : (Jvm.Cond.code ({ cls := "MouldVotes$Growth", name := "frost", desc := "()V" } : Jvm.MethodName) prog_4_method_14_code (2 : Nat) (Option.none : Option Jvm.ClassFile.FieldType)) ∈ lw_all := lw_g (lw_at lw_m6 92 rfl) rfl
theorem q2241 : (Jvm.Cond.castable "MouldVotes$Growth" "java/lang/Object") ∈ lw_tbl := lw_at lw_m9 201 rfl
theorem q132 : (Jvm.Cond.initialized "MouldVotes$Reader") ∈ lw_all := lw_g (lw_at lw_m1 12 rfl) rfl
theorem q198 : (Jvm.Cond.fieldLinkNest "MouldVotes$Reader" (230 : Nat) "MouldVotes$Roll" "parties" "Ljava/util/List;" "MouldVotes") ∈ lw_tbl := lw_at lw_m1 78 rfl
theorem q200 : (Jvm.Cond.fieldLinkNest "MouldVotes$Reader" (240 : Nat) "MouldVotes$Roll" "warmths" "Ljava/util/List;" "MouldVotes") ∈ lw_tbl := lw_at lw_m1 80 rfl
theorem q203 : (Jvm.Cond.fieldLinkNest "MouldVotes$Reader" (258 : Nat) "MouldVotes$Roll" "wide" "I" "MouldVotes") ∈ lw_tbl := lw_at lw_m1 83 rfl
theorem q205 : (Jvm.Cond.fieldLinkNest "MouldVotes$Reader" (261 : Nat) "MouldVotes$Roll" "high" "I" "MouldVotes") ∈ lw_tbl := lw_at lw_m1 85 rfl
theorem q209 : (Jvm.Cond.fieldLinkNest "MouldVotes$Reader" (266 : Nat) "MouldVotes$Roll" "age" "I" "MouldVotes") ∈ lw_tbl := lw_at lw_m1 89 rfl
theorem q213 : (Jvm.Cond.fieldLinkNest "MouldVotes$Reader" (268 : Nat) "MouldVotes$Roll" "spores" "I" "MouldVotes") ∈ lw_tbl := lw_at lw_m1 93 rfl
theorem q215 : (Jvm.Cond.fieldLinkNest "MouldVotes$Reader" (270 : Nat) "MouldVotes$Roll" "grows" "LMouldVotes$Form;" "MouldVotes") ∈ lw_tbl := lw_at lw_m1 95 rfl
theorem q217 : (Jvm.Cond.fieldLinkNest "MouldVotes$Reader" (273 : Nat) "MouldVotes$Roll" "beats" "LMouldVotes$Form;" "MouldVotes") ∈ lw_tbl := lw_at lw_m1 97 rfl
theorem q243 : (Jvm.Cond.fieldLinkNest "MouldVotes$Reader" (223 : Nat) "MouldVotes$Growth" "damp" "[I" "MouldVotes") ∈ lw_tbl := lw_at lw_m1 123 rfl
theorem q246 : (Jvm.Cond.fieldLinkNest "MouldVotes$Reader" (226 : Nat) "MouldVotes$Growth" "food" "[I" "MouldVotes") ∈ lw_tbl := lw_at lw_m1 126 rfl
theorem q249 : (Jvm.Cond.fieldLinkNest "MouldVotes$Reader" (228 : Nat) "MouldVotes$Growth" "kind" "[I" "MouldVotes") ∈ lw_tbl := lw_at lw_m1 129 rfl
theorem q252 : (Jvm.Cond.fieldLinkNest "MouldVotes$Reader" (238 : Nat) "MouldVotes$Growth" "size" "[I" "MouldVotes") ∈ lw_tbl := lw_at lw_m1 132 rfl
theorem q279 : (Jvm.Cond.fieldLinkNest "MouldVotes$Reader" (78 : Nat) "MouldVotes" "tape" "[B" "MouldVotes") ∈ lw_tbl := lw_at lw_m1 159 rfl
theorem q398 : (Jvm.Cond.selects "MouldVotes$Reader" ({ cls := "java/lang/Object", name := "getClass", desc := "()Ljava/lang/Class;" } : Jvm.MethodName) ({ cls := "java/lang/Object", name := "getClass", desc := "()Ljava/lang/Class;" } : Jvm.MethodName)) ∈ lw_all := lw_g (lw_at lw_m2 38 rfl) rfl
theorem q807 : (Jvm.Cond.instantiable "MouldVotes$Reader" (15 : Nat)) ∈ lw_all := lw_g (lw_at lw_m3 207 rfl) rfl
theorem q809 : (Jvm.Cond.instanceMethod ({ cls := "MouldVotes$Reader", name := "<init>", desc := "(LMouldVotes;I)V" } : Jvm.MethodName)) ∈ lw_all := lw_g (lw_at lw_m3 209 rfl) rfl
theorem q810 : (Jvm.Cond.code ({ cls := "MouldVotes$Reader", name := "<init>", desc := "(LMouldVotes;I)V" } : Jvm.MethodName) prog_7_method_1_code (3 : Nat) (Option.none : Option Jvm.ClassFile.FieldType)) ∈ lw_all := lw_g (lw_at lw_m3 210 rfl) rfl
theorem q811 : (Jvm.Cond.methodLink "MouldVotes$Reader" (9 : Nat) ({ cls := "java/lang/Object", name := "<init>", desc := "()V" } : Jvm.MethodName)) ∈ lw_all := lw_g (lw_at lw_m3 211 rfl) rfl
theorem q812 : (Jvm.Cond.classLink "MouldVotes$Reader" (15 : Nat) "MouldVotes$Roll") ∈ lw_all := lw_g (lw_at lw_m3 212 rfl) rfl
theorem q813 : (Jvm.Cond.methodLinkNest "MouldVotes$Reader" (17 : Nat) ({ cls := "MouldVotes$Roll", name := "<init>", desc := "()V" } : Jvm.MethodName) "MouldVotes") ∈ lw_tbl := lw_at lw_m3 213 rfl
theorem q814 : (Jvm.Cond.classLink "MouldVotes$Reader" (22 : Nat) "MouldVotes$Growth") ∈ lw_all := lw_g (lw_at lw_m3 214 rfl) rfl
theorem q815 : (Jvm.Cond.methodLink "MouldVotes$Reader" (24 : Nat) ({ cls := "MouldVotes$Growth", name := "<init>", desc := "(LMouldVotes;)V" } : Jvm.MethodName)) ∈ lw_all := lw_g (lw_at lw_m3 215 rfl) rfl
theorem q816 : (Jvm.Cond.classLink "MouldVotes$Reader" (31 : Nat) "java/lang/String") ∈ lw_all := lw_g (lw_at lw_m3 216 rfl) rfl
theorem q818 : (Jvm.Cond.stringRef "MouldVotes$Reader" (33 : Nat) "cellar") ∈ lw_tbl := lw_at lw_m3 218 rfl
theorem q819 : (Jvm.Cond.stringRef "MouldVotes$Reader" (35 : Nat) "warmth") ∈ lw_tbl := lw_at lw_m3 219 rfl
theorem q820 : (Jvm.Cond.stringRef "MouldVotes$Reader" (37 : Nat) "age") ∈ lw_tbl := lw_at lw_m3 220 rfl
theorem q821 : (Jvm.Cond.stringRef "MouldVotes$Reader" (39 : Nat) "spores") ∈ lw_tbl := lw_at lw_m3 221 rfl
theorem q822 : (Jvm.Cond.stringRef "MouldVotes$Reader" (41 : Nat) "grows") ∈ lw_tbl := lw_at lw_m3 222 rfl
theorem q823 : (Jvm.Cond.stringRef "MouldVotes$Reader" (43 : Nat) "beats") ∈ lw_tbl := lw_at lw_m3 223 rfl
theorem q824 : (Jvm.Cond.stringRef "MouldVotes$Reader" (49 : Nat) "size") ∈ lw_tbl := lw_at lw_m3 224 rfl
theorem q825 : (Jvm.Cond.stringRef "MouldVotes$Reader" (51 : Nat) "damp") ∈ lw_tbl := lw_at lw_m3 225 rfl
theorem q826 : (Jvm.Cond.stringRef "MouldVotes$Reader" (53 : Nat) "food") ∈ lw_tbl := lw_at lw_m3 226 rfl
theorem q827 : (Jvm.Cond.stringRef "MouldVotes$Reader" (55 : Nat) "friends") ∈ lw_tbl := lw_at lw_m3 227 rfl
theorem q828 : (Jvm.Cond.stringRef "MouldVotes$Reader" (57 : Nat) "foes") ∈ lw_tbl := lw_at lw_m3 228 rfl
theorem q829 : (Jvm.Cond.stringRef "MouldVotes$Reader" (59 : Nat) "kind") ∈ lw_tbl := lw_at lw_m3 229 rfl
theorem q830 : (Jvm.Cond.stringRef "MouldVotes$Reader" (64 : Nat) "other") ∈ lw_tbl := lw_at lw_m3 230 rfl
theorem q831 : (Jvm.Cond.fieldLink "MouldVotes$Reader" (72 : Nat) "MouldVotes$Reader" "size" "I") ∈ lw_all := lw_g (lw_at lw_m3 231 rfl) rfl
theorem q832 : (Jvm.Cond.fieldLink "MouldVotes$Reader" (18 : Nat) "MouldVotes$Reader" "made" "LMouldVotes$Roll;") ∈ lw_all := lw_g (lw_at lw_m3 232 rfl) rfl
theorem q833 : (Jvm.Cond.fieldLink "MouldVotes$Reader" (27 : Nat) "MouldVotes$Reader" "begun" "LMouldVotes$Growth;") ∈ lw_all := lw_g (lw_at lw_m3 233 rfl) rfl
theorem q835 : (Jvm.Cond.fieldLink "MouldVotes$Reader" (45 : Nat) "MouldVotes$Reader" "once" "[Ljava/lang/String;") ∈ lw_all := lw_g (lw_at lw_m3 235 rfl) rfl
theorem q836 : (Jvm.Cond.fieldLink "MouldVotes$Reader" (61 : Nat) "MouldVotes$Reader" "ofGrows" "[Ljava/lang/String;") ∈ lw_all := lw_g (lw_at lw_m3 236 rfl) rfl
theorem q837 : (Jvm.Cond.fieldLink "MouldVotes$Reader" (66 : Nat) "MouldVotes$Reader" "ofBeats" "[Ljava/lang/String;") ∈ lw_all := lw_g (lw_at lw_m3 237 rfl) rfl
theorem q838 : (Jvm.Cond.fieldLink "MouldVotes$Reader" (69 : Nat) "MouldVotes$Reader" "names" "[Ljava/lang/String;") ∈ lw_all := lw_g (lw_at lw_m3 238 rfl) rfl
theorem q839 : (Jvm.Cond.fieldLink "MouldVotes$Reader" (75 : Nat) "MouldVotes$Reader" "at" "I") ∈ lw_all := lw_g (lw_at lw_m3 239 rfl) rfl
theorem q840 : (Jvm.Cond.fieldLink "MouldVotes$Reader" (93 : Nat) "MouldVotes$Reader" "token" "I") ∈ lw_all := lw_g (lw_at lw_m4 0 rfl) rfl
theorem q841 : (Jvm.Cond.fieldLink "MouldVotes$Reader" (90 : Nat) "MouldVotes$Reader" "begins" "I") ∈ lw_all := lw_g (lw_at lw_m4 1 rfl) rfl
theorem q843 : (Jvm.Cond.fieldLink "MouldVotes$Reader" (119 : Nat) "MouldVotes$Reader" "ends" "I") ∈ lw_all := lw_g (lw_at lw_m4 3 rfl) rfl
theorem q844 : (Jvm.Cond.fieldLink "MouldVotes$Reader" (103 : Nat) "MouldVotes$Reader" "number" "I") ∈ lw_all := lw_g (lw_at lw_m4 4 rfl) rfl
theorem q845 : (Jvm.Cond.fieldLink "MouldVotes$Reader" (255 : Nat) "MouldVotes$Reader" "done" "I") ∈ lw_all := lw_g (lw_at lw_m4 5 rfl) rfl
theorem q846 : (Jvm.Cond.fieldLink "MouldVotes$Reader" (216 : Nat) "MouldVotes$Reader" "celled" "I") ∈ lw_all := lw_g (lw_at lw_m4 6 rfl) rfl
theorem q847 : (Jvm.Cond.fieldLink "MouldVotes$Reader" (3 : Nat) "MouldVotes$Reader" "this$0" "LMouldVotes;") ∈ lw_all := lw_g (lw_at lw_m4 7 rfl) rfl
theorem q848 : (Jvm.Cond.laysFinal "MouldVotes$Reader" "MouldVotes$Reader" "size" "I") ∈ lw_all := lw_g (lw_at lw_m4 8 rfl) rfl
theorem q849 : (Jvm.Cond.soleField "MouldVotes$Reader" "size") ∈ lw_all := lw_g (lw_at lw_m4 9 rfl) rfl
theorem q850 : (Jvm.Cond.laysFinal "MouldVotes$Reader" "MouldVotes$Reader" "made" "LMouldVotes$Roll;") ∈ lw_all := lw_g (lw_at lw_m4 10 rfl) rfl
theorem q851 : (Jvm.Cond.soleField "MouldVotes$Reader" "made") ∈ lw_all := lw_g (lw_at lw_m4 11 rfl) rfl
theorem q852 : (Jvm.Cond.laysFinal "MouldVotes$Reader" "MouldVotes$Reader" "begun" "LMouldVotes$Growth;") ∈ lw_all := lw_g (lw_at lw_m4 12 rfl) rfl
theorem q853 : (Jvm.Cond.soleField "MouldVotes$Reader" "begun") ∈ lw_all := lw_g (lw_at lw_m4 13 rfl) rfl
theorem q854 : (Jvm.Cond.laysFinal "MouldVotes$Reader" "MouldVotes$Reader" "once" "[Ljava/lang/String;") ∈ lw_all := lw_g (lw_at lw_m4 14 rfl) rfl
theorem q855 : (Jvm.Cond.soleField "MouldVotes$Reader" "once") ∈ lw_all := lw_g (lw_at lw_m4 15 rfl) rfl
theorem q856 : (Jvm.Cond.laysFinal "MouldVotes$Reader" "MouldVotes$Reader" "ofGrows" "[Ljava/lang/String;") ∈ lw_all := lw_g (lw_at lw_m4 16 rfl) rfl
theorem q857 : (Jvm.Cond.soleField "MouldVotes$Reader" "ofGrows") ∈ lw_all := lw_g (lw_at lw_m4 17 rfl) rfl
theorem q858 : (Jvm.Cond.laysFinal "MouldVotes$Reader" "MouldVotes$Reader" "ofBeats" "[Ljava/lang/String;") ∈ lw_all := lw_g (lw_at lw_m4 18 rfl) rfl
theorem q859 : (Jvm.Cond.soleField "MouldVotes$Reader" "ofBeats") ∈ lw_all := lw_g (lw_at lw_m4 19 rfl) rfl
theorem q860 : (Jvm.Cond.lays "MouldVotes$Reader" "MouldVotes$Reader" "names" "[Ljava/lang/String;") ∈ lw_all := lw_g (lw_at lw_m4 20 rfl) rfl
theorem q861 : (Jvm.Cond.soleField "MouldVotes$Reader" "names") ∈ lw_all := lw_g (lw_at lw_m4 21 rfl) rfl
theorem q862 : (Jvm.Cond.lays "MouldVotes$Reader" "MouldVotes$Reader" "at" "I") ∈ lw_all := lw_g (lw_at lw_m4 22 rfl) rfl
theorem q863 : (Jvm.Cond.soleField "MouldVotes$Reader" "at") ∈ lw_all := lw_g (lw_at lw_m4 23 rfl) rfl
theorem q864 : (Jvm.Cond.lays "MouldVotes$Reader" "MouldVotes$Reader" "token" "I") ∈ lw_all := lw_g (lw_at lw_m4 24 rfl) rfl
theorem q865 : (Jvm.Cond.soleField "MouldVotes$Reader" "token") ∈ lw_all := lw_g (lw_at lw_m4 25 rfl) rfl
theorem q866 : (Jvm.Cond.lays "MouldVotes$Reader" "MouldVotes$Reader" "begins" "I") ∈ lw_all := lw_g (lw_at lw_m4 26 rfl) rfl
theorem q867 : (Jvm.Cond.soleField "MouldVotes$Reader" "begins") ∈ lw_all := lw_g (lw_at lw_m4 27 rfl) rfl
theorem q868 : (Jvm.Cond.lays "MouldVotes$Reader" "MouldVotes$Reader" "ends" "I") ∈ lw_all := lw_g (lw_at lw_m4 28 rfl) rfl
theorem q869 : (Jvm.Cond.soleField "MouldVotes$Reader" "ends") ∈ lw_all := lw_g (lw_at lw_m4 29 rfl) rfl
theorem q870 : (Jvm.Cond.lays "MouldVotes$Reader" "MouldVotes$Reader" "number" "I") ∈ lw_all := lw_g (lw_at lw_m4 30 rfl) rfl
theorem q871 : (Jvm.Cond.soleField "MouldVotes$Reader" "number") ∈ lw_all := lw_g (lw_at lw_m4 31 rfl) rfl
theorem q872 : (Jvm.Cond.lays "MouldVotes$Reader" "MouldVotes$Reader" "done" "I") ∈ lw_all := lw_g (lw_at lw_m4 32 rfl) rfl
theorem q873 : (Jvm.Cond.soleField "MouldVotes$Reader" "done") ∈ lw_all := lw_g (lw_at lw_m4 33 rfl) rfl
theorem q874 : (Jvm.Cond.lays "MouldVotes$Reader" "MouldVotes$Reader" "celled" "I") ∈ lw_all := lw_g (lw_at lw_m4 34 rfl) rfl
theorem q875 : (Jvm.Cond.soleField "MouldVotes$Reader" "celled") ∈ lw_all := lw_g (lw_at lw_m4 35 rfl) rfl
theorem q876 : (Jvm.Cond.laysFinal "MouldVotes$Reader" "MouldVotes$Reader" "this$0" "LMouldVotes;") ∈ lw_all := lw_g (lw_at lw_m4 36 rfl) rfl
theorem q877 : (Jvm.Cond.soleField "MouldVotes$Reader" "this$0") ∈ lw_all := lw_g (lw_at lw_m4 37 rfl) rfl
theorem q878 : (Jvm.Cond.superclass "MouldVotes$Reader" "java/lang/Object") ∈ lw_all := lw_g (lw_at lw_m4 38 rfl) rfl
theorem q880 : (Jvm.Cond.instanceMethod ({ cls := "MouldVotes$Reader", name := "read", desc := "()LMouldVotes$Roll;" } : Jvm.MethodName)) ∈ lw_all := lw_g (lw_at lw_m4 40 rfl) rfl
theorem q881 : (Jvm.Cond.selects "MouldVotes$Reader" ({ cls := "MouldVotes$Reader", name := "read", desc := "()LMouldVotes$Roll;" } : Jvm.MethodName) ({ cls := "MouldVotes$Reader", name := "read", desc := "()LMouldVotes$Roll;" } : Jvm.MethodName)) ∈ lw_all := lw_g (lw_at lw_m4 41 rfl) rfl
theorem q882 : (Jvm.Cond.code ({ cls := "MouldVotes$Reader", name := "read", desc := "()LMouldVotes$Roll;" } : Jvm.MethodName) prog_7_method_27_code (1 : Nat) (Option.some (Jvm.ClassFile.FieldType.object "MouldVotes$Roll"))) ∈ lw_all := lw_g (lw_at lw_m4 42 rfl) rfl
theorem q883 : (Jvm.Cond.methodLink "MouldVotes$Reader" (133 : Nat) ({ cls := "MouldVotes$Reader", name := "next", desc := "()V" } : Jvm.MethodName)) ∈ lw_all := lw_g (lw_at lw_m4 43 rfl) rfl
theorem q884 : (Jvm.Cond.privateMethod ({ cls := "MouldVotes$Reader", name := "next", desc := "()V" } : Jvm.MethodName)) ∈ lw_tbl := lw_at lw_m4 44 rfl
theorem q885 : (Jvm.Cond.instanceMethod ({ cls := "MouldVotes$Reader", name := "next", desc := "()V" } : Jvm.MethodName)) ∈ lw_all := lw_g (lw_at lw_m4 45 rfl) rfl
theorem q886 : (Jvm.Cond.code ({ cls := "MouldVotes$Reader", name := "next", desc := "()V" } : Jvm.MethodName) prog_7_method_5_code (1 : Nat) (Option.none : Option Jvm.ClassFile.FieldType)) ∈ lw_all := lw_g (lw_at lw_m4 46 rfl) rfl
theorem q887 : (Jvm.Cond.methodLink "MouldVotes$Reader" (82 : Nat) ({ cls := "MouldVotes$Reader", name := "here", desc := "()I" } : Jvm.MethodName)) ∈ lw_all := lw_g (lw_at lw_m4 47 rfl) rfl
theorem q888 : (Jvm.Cond.privateMethod ({ cls := "MouldVotes$Reader", name := "here", desc := "()I" } : Jvm.MethodName)) ∈ lw_tbl := lw_at lw_m4 48 rfl
theorem q889 : (Jvm.Cond.instanceMethod ({ cls := "MouldVotes$Reader", name := "here", desc := "()I" } : Jvm.MethodName)) ∈ lw_all := lw_g (lw_at lw_m4 49 rfl) rfl
theorem q890 : (Jvm.Cond.code ({ cls := "MouldVotes$Reader", name := "here", desc := "()I" } : Jvm.MethodName) prog_7_method_2_code (1 : Nat) (Option.some Jvm.ClassFile.FieldType.int)) ∈ lw_all := lw_g (lw_at lw_m4 50 rfl) rfl
theorem q891 : (Jvm.Cond.methodLink "MouldVotes$Reader" (96 : Nat) ({ cls := "MouldVotes$Reader", name := "isLetter", desc := "()Z" } : Jvm.MethodName)) ∈ lw_all := lw_g (lw_at lw_m4 51 rfl) rfl
theorem q892 : (Jvm.Cond.privateMethod ({ cls := "MouldVotes$Reader", name := "isLetter", desc := "()Z" } : Jvm.MethodName)) ∈ lw_tbl := lw_at lw_m4 52 rfl
theorem q893 : (Jvm.Cond.instanceMethod ({ cls := "MouldVotes$Reader", name := "isLetter", desc := "()Z" } : Jvm.MethodName)) ∈ lw_all := lw_g (lw_at lw_m4 53 rfl) rfl
theorem q894 : (Jvm.Cond.code ({ cls := "MouldVotes$Reader", name := "isLetter", desc := "()Z" } : Jvm.MethodName) prog_7_method_3_code (1 : Nat) (Option.some Jvm.ClassFile.FieldType.boolean)) ∈ lw_all := lw_g (lw_at lw_m4 54 rfl) rfl
theorem q895 : (Jvm.Cond.methodLinkNest "MouldVotes$Reader" (86 : Nat) ({ cls := "MouldVotes", name := "in", desc := "(III)Z" } : Jvm.MethodName) "MouldVotes") ∈ lw_tbl := lw_at lw_m4 55 rfl
theorem q896 : (Jvm.Cond.methodLink "MouldVotes$Reader" (100 : Nat) ({ cls := "MouldVotes$Reader", name := "isDigit", desc := "()Z" } : Jvm.MethodName)) ∈ lw_all := lw_g (lw_at lw_m4 56 rfl) rfl
theorem q897 : (Jvm.Cond.privateMethod ({ cls := "MouldVotes$Reader", name := "isDigit", desc := "()Z" } : Jvm.MethodName)) ∈ lw_tbl := lw_at lw_m4 57 rfl
theorem q898 : (Jvm.Cond.instanceMethod ({ cls := "MouldVotes$Reader", name := "isDigit", desc := "()Z" } : Jvm.MethodName)) ∈ lw_all := lw_g (lw_at lw_m4 58 rfl) rfl
theorem q899 : (Jvm.Cond.code ({ cls := "MouldVotes$Reader", name := "isDigit", desc := "()Z" } : Jvm.MethodName) prog_7_method_4_code (1 : Nat) (Option.some Jvm.ClassFile.FieldType.boolean)) ∈ lw_all := lw_g (lw_at lw_m4 59 rfl) rfl
theorem q900 : (Jvm.Cond.constant "MouldVotes$Reader" (106 : Nat) (100000 : Int32)) ∈ lw_all := lw_g (lw_at lw_m4 60 rfl) rfl
theorem q901 : (Jvm.Cond.methodLink "MouldVotes$Reader" (107 : Nat) ({ cls := "java/lang/Math", name := "min", desc := "(II)I" } : Jvm.MethodName)) ∈ lw_all := lw_g (lw_at lw_m4 61 rfl) rfl
theorem q902 : (Jvm.Cond.stringRef "MouldVotes$Reader" (113 : Nat) ";()+-*/<=") ∈ lw_tbl := lw_at lw_m4 62 rfl
theorem q903 : (Jvm.Cond.methodLink "MouldVotes$Reader" (115 : Nat) ({ cls := "java/lang/String", name := "indexOf", desc := "(I)I" } : Jvm.MethodName)) ∈ lw_all := lw_g (lw_at lw_m4 63 rfl) rfl
theorem q972 : (Jvm.Cond.methodLink "MouldVotes$Reader" (286 : Nat) ({ cls := "MouldVotes$Reader", name := "line", desc := "()V" } : Jvm.MethodName)) ∈ lw_all := lw_g (lw_at lw_m4 132 rfl) rfl
theorem q973 : (Jvm.Cond.privateMethod ({ cls := "MouldVotes$Reader", name := "line", desc := "()V" } : Jvm.MethodName)) ∈ lw_tbl := lw_at lw_m4 133 rfl
theorem q974 : (Jvm.Cond.instanceMethod ({ cls := "MouldVotes$Reader", name := "line", desc := "()V" } : Jvm.MethodName)) ∈ lw_all := lw_g (lw_at lw_m4 134 rfl) rfl
theorem q975 : (Jvm.Cond.code ({ cls := "MouldVotes$Reader", name := "line", desc := "()V" } : Jvm.MethodName) prog_7_method_26_code (2 : Nat) (Option.none : Option Jvm.ClassFile.FieldType)) ∈ lw_all := lw_g (lw_at lw_m4 135 rfl) rfl
theorem q976 : (Jvm.Cond.methodLink "MouldVotes$Reader" (161 : Nat) ({ cls := "MouldVotes$Reader", name := "which", desc := "([Ljava/lang/String;)I" } : Jvm.MethodName)) ∈ lw_all := lw_g (lw_at lw_m4 136 rfl) rfl
theorem q977 : (Jvm.Cond.privateMethod ({ cls := "MouldVotes$Reader", name := "which", desc := "([Ljava/lang/String;)I" } : Jvm.MethodName)) ∈ lw_tbl := lw_at lw_m4 137 rfl
theorem q978 : (Jvm.Cond.instanceMethod ({ cls := "MouldVotes$Reader", name := "which", desc := "([Ljava/lang/String;)I" } : Jvm.MethodName)) ∈ lw_all := lw_g (lw_at lw_m4 138 rfl) rfl
theorem q979 : (Jvm.Cond.code ({ cls := "MouldVotes$Reader", name := "which", desc := "([Ljava/lang/String;)I" } : Jvm.MethodName) prog_7_method_7_code (3 : Nat) (Option.some Jvm.ClassFile.FieldType.int)) ∈ lw_all := lw_g (lw_at lw_m4 139 rfl) rfl
theorem q980 : (Jvm.Cond.methodLink "MouldVotes$Reader" (129 : Nat) ({ cls := "MouldVotes$Reader", name := "is", desc := "(Ljava/lang/String;)Z" } : Jvm.MethodName)) ∈ lw_all := lw_g (lw_at lw_m4 140 rfl) rfl
theorem q981 : (Jvm.Cond.privateMethod ({ cls := "MouldVotes$Reader", name := "is", desc := "(Ljava/lang/String;)Z" } : Jvm.MethodName)) ∈ lw_tbl := lw_at lw_m4 141 rfl
theorem q982 : (Jvm.Cond.instanceMethod ({ cls := "MouldVotes$Reader", name := "is", desc := "(Ljava/lang/String;)Z" } : Jvm.MethodName)) ∈ lw_all := lw_g (lw_at lw_m4 142 rfl) rfl
theorem q983 : (Jvm.Cond.code ({ cls := "MouldVotes$Reader", name := "is", desc := "(Ljava/lang/String;)Z" } : Jvm.MethodName) prog_7_method_6_code (3 : Nat) (Option.some Jvm.ClassFile.FieldType.boolean)) ∈ lw_all := lw_g (lw_at lw_m4 143 rfl) rfl
theorem q984 : (Jvm.Cond.methodLink "MouldVotes$Reader" (122 : Nat) ({ cls := "java/lang/String", name := "length", desc := "()I" } : Jvm.MethodName)) ∈ lw_all := lw_g (lw_at lw_m4 144 rfl) rfl
theorem q985 : (Jvm.Cond.methodLink "MouldVotes$Reader" (125 : Nat) ({ cls := "java/lang/String", name := "charAt", desc := "(I)C" } : Jvm.MethodName)) ∈ lw_all := lw_g (lw_at lw_m4 145 rfl) rfl
theorem q1000 : (Jvm.Cond.methodLink "MouldVotes$Reader" (275 : Nat) ({ cls := "MouldVotes$Reader", name := "only", desc := "(I)V" } : Jvm.MethodName)) ∈ lw_all := lw_g (lw_at lw_m4 160 rfl) rfl
theorem q1001 : (Jvm.Cond.privateMethod ({ cls := "MouldVotes$Reader", name := "only", desc := "(I)V" } : Jvm.MethodName)) ∈ lw_tbl := lw_at lw_m4 161 rfl
theorem q1002 : (Jvm.Cond.instanceMethod ({ cls := "MouldVotes$Reader", name := "only", desc := "(I)V" } : Jvm.MethodName)) ∈ lw_all := lw_g (lw_at lw_m4 162 rfl) rfl
theorem q1003 : (Jvm.Cond.code ({ cls := "MouldVotes$Reader", name := "only", desc := "(I)V" } : Jvm.MethodName) prog_7_method_25_code (3 : Nat) (Option.none : Option Jvm.ClassFile.FieldType)) ∈ lw_all := lw_g (lw_at lw_m4 163 rfl) rfl
theorem q1004 : (Jvm.Cond.methodLink "MouldVotes$Reader" (252 : Nat) ({ cls := "MouldVotes$Reader", name := "isBegun", desc := "()Z" } : Jvm.MethodName)) ∈ lw_all := lw_g (lw_at lw_m4 164 rfl) rfl
theorem q1005 : (Jvm.Cond.privateMethod ({ cls := "MouldVotes$Reader", name := "isBegun", desc := "()Z" } : Jvm.MethodName)) ∈ lw_tbl := lw_at lw_m4 165 rfl
theorem q1006 : (Jvm.Cond.instanceMethod ({ cls := "MouldVotes$Reader", name := "isBegun", desc := "()Z" } : Jvm.MethodName)) ∈ lw_all := lw_g (lw_at lw_m4 166 rfl) rfl
theorem q1007 : (Jvm.Cond.code ({ cls := "MouldVotes$Reader", name := "isBegun", desc := "()Z" } : Jvm.MethodName) prog_7_method_23_code (3 : Nat) (Option.some Jvm.ClassFile.FieldType.boolean)) ∈ lw_all := lw_g (lw_at lw_m4 167 rfl) rfl
theorem q1008 : (Jvm.Cond.methodLink "MouldVotes$Reader" (141 : Nat) ({ cls := "MouldVotes$Reader", name := "want", desc := "(ZI)V" } : Jvm.MethodName)) ∈ lw_all := lw_g (lw_at lw_m4 168 rfl) rfl
theorem q1009 : (Jvm.Cond.privateMethod ({ cls := "MouldVotes$Reader", name := "want", desc := "(ZI)V" } : Jvm.MethodName)) ∈ lw_tbl := lw_at lw_m4 169 rfl
theorem q1010 : (Jvm.Cond.instanceMethod ({ cls := "MouldVotes$Reader", name := "want", desc := "(ZI)V" } : Jvm.MethodName)) ∈ lw_all := lw_g (lw_at lw_m4 170 rfl) rfl
theorem q1011 : (Jvm.Cond.code ({ cls := "MouldVotes$Reader", name := "want", desc := "(ZI)V" } : Jvm.MethodName) prog_7_method_10_code (3 : Nat) (Option.none : Option Jvm.ClassFile.FieldType)) ∈ lw_all := lw_g (lw_at lw_m4 171 rfl) rfl
theorem q1012 : (Jvm.Cond.classLink "MouldVotes$Reader" (136 : Nat) "MouldVotes$Wrong") ∈ lw_all := lw_g (lw_at lw_m4 172 rfl) rfl
theorem q1021 : (Jvm.Cond.methodLink "MouldVotes$Reader" (138 : Nat) ({ cls := "MouldVotes$Wrong", name := "<init>", desc := "(I)V" } : Jvm.MethodName)) ∈ lw_all := lw_g (lw_at lw_m4 181 rfl) rfl
theorem q1036 : (Jvm.Cond.methodLinkNest "MouldVotes$Reader" (219 : Nat) ({ cls := "MouldVotes", name := "isOf", desc := "(II)Z" } : Jvm.MethodName) "MouldVotes") ∈ lw_tbl := lw_at lw_m4 196 rfl
theorem q1037 : (Jvm.Cond.methodLink "MouldVotes$Reader" (150 : Nat) ({ cls := "MouldVotes$Reader", name := "number", desc := "(II)I" } : Jvm.MethodName)) ∈ lw_all := lw_g (lw_at lw_m4 197 rfl) rfl
theorem q1038 : (Jvm.Cond.privateMethod ({ cls := "MouldVotes$Reader", name := "number", desc := "(II)I" } : Jvm.MethodName)) ∈ lw_tbl := lw_at lw_m4 198 rfl
theorem q1039 : (Jvm.Cond.instanceMethod ({ cls := "MouldVotes$Reader", name := "number", desc := "(II)I" } : Jvm.MethodName)) ∈ lw_all := lw_g (lw_at lw_m4 199 rfl) rfl
theorem q1040 : (Jvm.Cond.code ({ cls := "MouldVotes$Reader", name := "number", desc := "(II)I" } : Jvm.MethodName) prog_7_method_12_code (4 : Nat) (Option.some Jvm.ClassFile.FieldType.int)) ∈ lw_all := lw_g (lw_at lw_m4 200 rfl) rfl
theorem q1041 : (Jvm.Cond.methodLink "MouldVotes$Reader" (145 : Nat) ({ cls := "MouldVotes$Reader", name := "numberNow", desc := "(II)I" } : Jvm.MethodName)) ∈ lw_all := lw_g (lw_at lw_m4 201 rfl) rfl
theorem q1042 : (Jvm.Cond.privateMethod ({ cls := "MouldVotes$Reader", name := "numberNow", desc := "(II)I" } : Jvm.MethodName)) ∈ lw_tbl := lw_at lw_m4 202 rfl
theorem q1043 : (Jvm.Cond.instanceMethod ({ cls := "MouldVotes$Reader", name := "numberNow", desc := "(II)I" } : Jvm.MethodName)) ∈ lw_all := lw_g (lw_at lw_m4 203 rfl) rfl
theorem q1044 : (Jvm.Cond.code ({ cls := "MouldVotes$Reader", name := "numberNow", desc := "(II)I" } : Jvm.MethodName) prog_7_method_11_code (3 : Nat) (Option.some Jvm.ClassFile.FieldType.int)) ∈ lw_all := lw_g (lw_at lw_m4 204 rfl) rfl
theorem q1045 : (Jvm.Cond.methodLink "MouldVotes$Reader" (264 : Nat) ({ cls := "MouldVotes$Reader", name := "warmths", desc := "()V" } : Jvm.MethodName)) ∈ lw_all := lw_g (lw_at lw_m4 205 rfl) rfl
theorem q1046 : (Jvm.Cond.privateMethod ({ cls := "MouldVotes$Reader", name := "warmths", desc := "()V" } : Jvm.MethodName)) ∈ lw_tbl := lw_at lw_m4 206 rfl
theorem q1047 : (Jvm.Cond.instanceMethod ({ cls := "MouldVotes$Reader", name := "warmths", desc := "()V" } : Jvm.MethodName)) ∈ lw_all := lw_g (lw_at lw_m4 207 rfl) rfl
theorem q1048 : (Jvm.Cond.code ({ cls := "MouldVotes$Reader", name := "warmths", desc := "()V" } : Jvm.MethodName) prog_7_method_24_code (1 : Nat) (Option.none : Option Jvm.ClassFile.FieldType)) ∈ lw_all := lw_g (lw_at lw_m4 208 rfl) rfl
theorem q1049 : (Jvm.Cond.interfaceEntry "MouldVotes$Reader" (234 : Nat)) ∈ lw_tbl := lw_at lw_m4 209 rfl
theorem q1050 : (Jvm.Cond.methodLink "MouldVotes$Reader" (234 : Nat) ({ cls := "java/util/List", name := "size", desc := "()I" } : Jvm.MethodName)) ∈ lw_all := lw_g (lw_at lw_m4 210 rfl) rfl
theorem q1051 : (Jvm.Cond.methodLink "MouldVotes$Reader" (243 : Nat) ({ cls := "java/lang/Integer", name := "valueOf", desc := "(I)Ljava/lang/Integer;" } : Jvm.MethodName)) ∈ lw_all := lw_g (lw_at lw_m4 211 rfl) rfl
theorem q1052 : (Jvm.Cond.interfaceEntry "MouldVotes$Reader" (249 : Nat)) ∈ lw_tbl := lw_at lw_m4 212 rfl
theorem q1053 : (Jvm.Cond.methodLink "MouldVotes$Reader" (249 : Nat) ({ cls := "java/util/List", name := "add", desc := "(Ljava/lang/Object;)Z" } : Jvm.MethodName)) ∈ lw_all := lw_g (lw_at lw_m4 213 rfl) rfl
theorem q1054 : (Jvm.Cond.methodLink "MouldVotes$Reader" (157 : Nat) ({ cls := "MouldVotes$Reader", name := "expression", desc := "(I)LMouldVotes$Form;" } : Jvm.MethodName)) ∈ lw_all := lw_g (lw_at lw_m4 214 rfl) rfl
theorem q1055 : (Jvm.Cond.privateMethod ({ cls := "MouldVotes$Reader", name := "expression", desc := "(I)LMouldVotes$Form;" } : Jvm.MethodName)) ∈ lw_tbl := lw_at lw_m4 215 rfl
theorem q1056 : (Jvm.Cond.instanceMethod ({ cls := "MouldVotes$Reader", name := "expression", desc := "(I)LMouldVotes$Form;" } : Jvm.MethodName)) ∈ lw_all := lw_g (lw_at lw_m4 216 rfl) rfl
theorem q1057 : (Jvm.Cond.code ({ cls := "MouldVotes$Reader", name := "expression", desc := "(I)LMouldVotes$Form;" } : Jvm.MethodName) prog_7_method_19_code (3 : Nat) (Option.some (Jvm.ClassFile.FieldType.object "MouldVotes$Form"))) ∈ lw_all := lw_g (lw_at lw_m4 217 rfl) rfl
theorem q1058 : (Jvm.Cond.methodLink "MouldVotes$Reader" (153 : Nat) ({ cls := "MouldVotes$Reader", name := "isSign", desc := "(C)Z" } : Jvm.MethodName)) ∈ lw_all := lw_g (lw_at lw_m4 218 rfl) rfl
theorem q1059 : (Jvm.Cond.privateMethod ({ cls := "MouldVotes$Reader", name := "isSign", desc := "(C)Z" } : Jvm.MethodName)) ∈ lw_tbl := lw_at lw_m4 219 rfl
theorem q1060 : (Jvm.Cond.instanceMethod ({ cls := "MouldVotes$Reader", name := "isSign", desc := "(C)Z" } : Jvm.MethodName)) ∈ lw_all := lw_g (lw_at lw_m4 220 rfl) rfl
theorem q1061 : (Jvm.Cond.code ({ cls := "MouldVotes$Reader", name := "isSign", desc := "(C)Z" } : Jvm.MethodName) prog_7_method_8_code (2 : Nat) (Option.some Jvm.ClassFile.FieldType.boolean)) ∈ lw_all := lw_g (lw_at lw_m4 221 rfl) rfl
theorem q1062 : (Jvm.Cond.classLink "MouldVotes$Reader" (168 : Nat) "MouldVotes$Chain") ∈ lw_all := lw_g (lw_at lw_m4 222 rfl) rfl
theorem q1064 : (Jvm.Cond.methodLink "MouldVotes$Reader" (206 : Nat) ({ cls := "MouldVotes$Reader", name := "and", desc := "(I)LMouldVotes$Form;" } : Jvm.MethodName)) ∈ lw_all := lw_g (lw_at lw_m4 224 rfl) rfl
theorem q1065 : (Jvm.Cond.privateMethod ({ cls := "MouldVotes$Reader", name := "and", desc := "(I)LMouldVotes$Form;" } : Jvm.MethodName)) ∈ lw_tbl := lw_at lw_m4 225 rfl
theorem q1066 : (Jvm.Cond.instanceMethod ({ cls := "MouldVotes$Reader", name := "and", desc := "(I)LMouldVotes$Form;" } : Jvm.MethodName)) ∈ lw_all := lw_g (lw_at lw_m4 226 rfl) rfl
theorem q1067 : (Jvm.Cond.code ({ cls := "MouldVotes$Reader", name := "and", desc := "(I)LMouldVotes$Form;" } : Jvm.MethodName) prog_7_method_18_code (3 : Nat) (Option.some (Jvm.ClassFile.FieldType.object "MouldVotes$Form"))) ∈ lw_all := lw_g (lw_at lw_m4 227 rfl) rfl
theorem q1068 : (Jvm.Cond.methodLink "MouldVotes$Reader" (199 : Nat) ({ cls := "MouldVotes$Reader", name := "not", desc := "(I)LMouldVotes$Form;" } : Jvm.MethodName)) ∈ lw_all := lw_g (lw_at lw_m4 228 rfl) rfl
theorem q1069 : (Jvm.Cond.privateMethod ({ cls := "MouldVotes$Reader", name := "not", desc := "(I)LMouldVotes$Form;" } : Jvm.MethodName)) ∈ lw_tbl := lw_at lw_m4 229 rfl
theorem q1070 : (Jvm.Cond.instanceMethod ({ cls := "MouldVotes$Reader", name := "not", desc := "(I)LMouldVotes$Form;" } : Jvm.MethodName)) ∈ lw_all := lw_g (lw_at lw_m4 230 rfl) rfl
theorem q1071 : (Jvm.Cond.code ({ cls := "MouldVotes$Reader", name := "not", desc := "(I)LMouldVotes$Form;" } : Jvm.MethodName) prog_7_method_17_code (6 : Nat) (Option.some (Jvm.ClassFile.FieldType.object "MouldVotes$Form"))) ∈ lw_all := lw_g (lw_at lw_m4 231 rfl) rfl
theorem q1072 : (Jvm.Cond.stringRef "MouldVotes$Reader" (191 : Nat) "not") ∈ lw_tbl := lw_at lw_m4 232 rfl
theorem q1073 : (Jvm.Cond.methodLink "MouldVotes$Reader" (193 : Nat) ({ cls := "MouldVotes$Reader", name := "sum", desc := "(I)LMouldVotes$Form;" } : Jvm.MethodName)) ∈ lw_all := lw_g (lw_at lw_m4 233 rfl) rfl
theorem q1074 : (Jvm.Cond.privateMethod ({ cls := "MouldVotes$Reader", name := "sum", desc := "(I)LMouldVotes$Form;" } : Jvm.MethodName)) ∈ lw_tbl := lw_at lw_m4 234 rfl
theorem q1075 : (Jvm.Cond.instanceMethod ({ cls := "MouldVotes$Reader", name := "sum", desc := "(I)LMouldVotes$Form;" } : Jvm.MethodName)) ∈ lw_all := lw_g (lw_at lw_m4 235 rfl) rfl
theorem q1076 : (Jvm.Cond.code ({ cls := "MouldVotes$Reader", name := "sum", desc := "(I)LMouldVotes$Form;" } : Jvm.MethodName) prog_7_method_16_code (4 : Nat) (Option.some (Jvm.ClassFile.FieldType.object "MouldVotes$Form"))) ∈ lw_all := lw_g (lw_at lw_m4 236 rfl) rfl
theorem q1077 : (Jvm.Cond.methodLink "MouldVotes$Reader" (188 : Nat) ({ cls := "MouldVotes$Reader", name := "product", desc := "(I)LMouldVotes$Form;" } : Jvm.MethodName)) ∈ lw_all := lw_g (lw_at lw_m4 237 rfl) rfl
theorem q1078 : (Jvm.Cond.privateMethod ({ cls := "MouldVotes$Reader", name := "product", desc := "(I)LMouldVotes$Form;" } : Jvm.MethodName)) ∈ lw_tbl := lw_at lw_m4 238 rfl
theorem q1079 : (Jvm.Cond.instanceMethod ({ cls := "MouldVotes$Reader", name := "product", desc := "(I)LMouldVotes$Form;" } : Jvm.MethodName)) ∈ lw_all := lw_g (lw_at lw_m4 239 rfl) rfl
theorem q1080 : (Jvm.Cond.code ({ cls := "MouldVotes$Reader", name := "product", desc := "(I)LMouldVotes$Form;" } : Jvm.MethodName) prog_7_method_15_code (4 : Nat) (Option.some (Jvm.ClassFile.FieldType.object "MouldVotes$Form"))) ∈ lw_all := lw_g (lw_at lw_m5 0 rfl) rfl
theorem q1081 : (Jvm.Cond.methodLink "MouldVotes$Reader" (170 : Nat) ({ cls := "MouldVotes$Reader", name := "part", desc := "(I)LMouldVotes$Form;" } : Jvm.MethodName)) ∈ lw_all := lw_g (lw_at lw_m5 1 rfl) rfl
theorem q1082 : (Jvm.Cond.privateMethod ({ cls := "MouldVotes$Reader", name := "part", desc := "(I)LMouldVotes$Form;" } : Jvm.MethodName)) ∈ lw_tbl := lw_at lw_m5 2 rfl
theorem q1083 : (Jvm.Cond.instanceMethod ({ cls := "MouldVotes$Reader", name := "part", desc := "(I)LMouldVotes$Form;" } : Jvm.MethodName)) ∈ lw_all := lw_g (lw_at lw_m5 3 rfl) rfl
theorem q1084 : (Jvm.Cond.code ({ cls := "MouldVotes$Reader", name := "part", desc := "(I)LMouldVotes$Form;" } : Jvm.MethodName) prog_7_method_13_code (3 : Nat) (Option.some (Jvm.ClassFile.FieldType.object "MouldVotes$Form"))) ∈ lw_all := lw_g (lw_at lw_m5 4 rfl) rfl
theorem q1085 : (Jvm.Cond.classLink "MouldVotes$Reader" (148 : Nat) "MouldVotes$Number") ∈ lw_all := lw_g (lw_at lw_m5 5 rfl) rfl
theorem q1087 : (Jvm.Cond.methodLink "MouldVotes$Reader" (152 : Nat) ({ cls := "MouldVotes$Number", name := "<init>", desc := "(I)V" } : Jvm.MethodName)) ∈ lw_all := lw_g (lw_at lw_m5 7 rfl) rfl
theorem q1095 : (Jvm.Cond.classLink "MouldVotes$Reader" (165 : Nat) "MouldVotes$Value") ∈ lw_all := lw_g (lw_at lw_m5 15 rfl) rfl
theorem q1097 : (Jvm.Cond.methodLink "MouldVotes$Reader" (167 : Nat) ({ cls := "MouldVotes$Value", name := "<init>", desc := "(I)V" } : Jvm.MethodName)) ∈ lw_all := lw_g (lw_at lw_m5 17 rfl) rfl
theorem q1105 : (Jvm.Cond.methodLink "MouldVotes$Reader" (173 : Nat) ({ cls := "MouldVotes$Chain", name := "<init>", desc := "(LMouldVotes$Form;)V" } : Jvm.MethodName)) ∈ lw_all := lw_g (lw_at lw_m5 25 rfl) rfl
theorem q1148 : (Jvm.Cond.methodLink "MouldVotes$Reader" (176 : Nat) ({ cls := "MouldVotes$Reader", name := "sign", desc := "()C" } : Jvm.MethodName)) ∈ lw_all := lw_g (lw_at lw_m5 68 rfl) rfl
theorem q1149 : (Jvm.Cond.privateMethod ({ cls := "MouldVotes$Reader", name := "sign", desc := "()C" } : Jvm.MethodName)) ∈ lw_tbl := lw_at lw_m5 69 rfl
theorem q1150 : (Jvm.Cond.instanceMethod ({ cls := "MouldVotes$Reader", name := "sign", desc := "()C" } : Jvm.MethodName)) ∈ lw_all := lw_g (lw_at lw_m5 70 rfl) rfl
theorem q1151 : (Jvm.Cond.code ({ cls := "MouldVotes$Reader", name := "sign", desc := "()C" } : Jvm.MethodName) prog_7_method_14_code (2 : Nat) (Option.some Jvm.ClassFile.FieldType.char)) ∈ lw_all := lw_g (lw_at lw_m5 71 rfl) rfl
theorem q1152 : (Jvm.Cond.methodLink "MouldVotes$Reader" (180 : Nat) ({ cls := "MouldVotes$Chain", name := "add", desc := "(CLMouldVotes$Form;)V" } : Jvm.MethodName)) ∈ lw_all := lw_g (lw_at lw_m5 72 rfl) rfl
theorem q1216 : (Jvm.Cond.methodLink "MouldVotes$Reader" (184 : Nat) ({ cls := "MouldVotes$Chain", name := "plain", desc := "()LMouldVotes$Form;" } : Jvm.MethodName)) ∈ lw_all := lw_g (lw_at lw_m5 136 rfl) rfl
theorem q1220 : (Jvm.Cond.classLink "MouldVotes$Reader" (196 : Nat) "MouldVotes$Not") ∈ lw_all := lw_g (lw_at lw_m5 140 rfl) rfl
theorem q1222 : (Jvm.Cond.methodLink "MouldVotes$Reader" (198 : Nat) ({ cls := "MouldVotes$Not", name := "<init>", desc := "(LMouldVotes$Form;)V" } : Jvm.MethodName)) ∈ lw_all := lw_g (lw_at lw_m5 142 rfl) rfl
theorem q1230 : (Jvm.Cond.stringRef "MouldVotes$Reader" (201 : Nat) "and") ∈ lw_tbl := lw_at lw_m5 150 rfl
theorem q1231 : (Jvm.Cond.methodLink "MouldVotes$Reader" (203 : Nat) ({ cls := "MouldVotes$Reader", name := "passes", desc := "(Ljava/lang/String;)Z" } : Jvm.MethodName)) ∈ lw_all := lw_g (lw_at lw_m5 151 rfl) rfl
theorem q1232 : (Jvm.Cond.privateMethod ({ cls := "MouldVotes$Reader", name := "passes", desc := "(Ljava/lang/String;)Z" } : Jvm.MethodName)) ∈ lw_tbl := lw_at lw_m5 152 rfl
theorem q1233 : (Jvm.Cond.instanceMethod ({ cls := "MouldVotes$Reader", name := "passes", desc := "(Ljava/lang/String;)Z" } : Jvm.MethodName)) ∈ lw_all := lw_g (lw_at lw_m5 153 rfl) rfl
theorem q1234 : (Jvm.Cond.code ({ cls := "MouldVotes$Reader", name := "passes", desc := "(Ljava/lang/String;)Z" } : Jvm.MethodName) prog_7_method_9_code (3 : Nat) (Option.some Jvm.ClassFile.FieldType.boolean)) ∈ lw_all := lw_g (lw_at lw_m5 154 rfl) rfl
theorem q1235 : (Jvm.Cond.stringRef "MouldVotes$Reader" (208 : Nat) "or") ∈ lw_tbl := lw_at lw_m5 155 rfl
theorem q1236 : (Jvm.Cond.stringRef "MouldVotes$Reader" (278 : Nat) "cell") ∈ lw_tbl := lw_at lw_m5 156 rfl
theorem q1237 : (Jvm.Cond.methodLink "MouldVotes$Reader" (280 : Nat) ({ cls := "MouldVotes$Reader", name := "cell", desc := "()V" } : Jvm.MethodName)) ∈ lw_all := lw_g (lw_at lw_m5 157 rfl) rfl
theorem q1238 : (Jvm.Cond.privateMethod ({ cls := "MouldVotes$Reader", name := "cell", desc := "()V" } : Jvm.MethodName)) ∈ lw_tbl := lw_at lw_m5 158 rfl
theorem q1239 : (Jvm.Cond.instanceMethod ({ cls := "MouldVotes$Reader", name := "cell", desc := "()V" } : Jvm.MethodName)) ∈ lw_all := lw_g (lw_at lw_m5 159 rfl) rfl
theorem q1240 : (Jvm.Cond.code ({ cls := "MouldVotes$Reader", name := "cell", desc := "()V" } : Jvm.MethodName) prog_7_method_21_code (2 : Nat) (Option.none : Option Jvm.ClassFile.FieldType)) ∈ lw_all := lw_g (lw_at lw_m5 160 rfl) rfl
theorem q1241 : (Jvm.Cond.methodLink "MouldVotes$Reader" (213 : Nat) ({ cls := "MouldVotes$Reader", name := "cellNow", desc := "()I" } : Jvm.MethodName)) ∈ lw_all := lw_g (lw_at lw_m5 161 rfl) rfl
theorem q1242 : (Jvm.Cond.privateMethod ({ cls := "MouldVotes$Reader", name := "cellNow", desc := "()I" } : Jvm.MethodName)) ∈ lw_tbl := lw_at lw_m5 162 rfl
theorem q1243 : (Jvm.Cond.instanceMethod ({ cls := "MouldVotes$Reader", name := "cellNow", desc := "()I" } : Jvm.MethodName)) ∈ lw_all := lw_g (lw_at lw_m5 163 rfl) rfl
theorem q1244 : (Jvm.Cond.code ({ cls := "MouldVotes$Reader", name := "cellNow", desc := "()I" } : Jvm.MethodName) prog_7_method_20_code (2 : Nat) (Option.some Jvm.ClassFile.FieldType.int)) ∈ lw_all := lw_g (lw_at lw_m5 164 rfl) rfl
theorem q1245 : (Jvm.Cond.methodLink "MouldVotes$Reader" (210 : Nat) ({ cls := "MouldVotes$Roll", name := "cells", desc := "()I" } : Jvm.MethodName)) ∈ lw_all := lw_g (lw_at lw_m5 165 rfl) rfl
theorem q1246 : (Jvm.Cond.stringRef "MouldVotes$Reader" (282 : Nat) "mould") ∈ lw_tbl := lw_at lw_m5 166 rfl
theorem q1247 : (Jvm.Cond.methodLink "MouldVotes$Reader" (284 : Nat) ({ cls := "MouldVotes$Reader", name := "mould", desc := "()V" } : Jvm.MethodName)) ∈ lw_all := lw_g (lw_at lw_m5 167 rfl) rfl
theorem q1248 : (Jvm.Cond.privateMethod ({ cls := "MouldVotes$Reader", name := "mould", desc := "()V" } : Jvm.MethodName)) ∈ lw_tbl := lw_at lw_m5 168 rfl
theorem q1249 : (Jvm.Cond.instanceMethod ({ cls := "MouldVotes$Reader", name := "mould", desc := "()V" } : Jvm.MethodName)) ∈ lw_all := lw_g (lw_at lw_m5 169 rfl) rfl
theorem q1250 : (Jvm.Cond.code ({ cls := "MouldVotes$Reader", name := "mould", desc := "()V" } : Jvm.MethodName) prog_7_method_22_code (3 : Nat) (Option.none : Option Jvm.ClassFile.FieldType)) ∈ lw_all := lw_g (lw_at lw_m5 170 rfl) rfl
theorem q2244 : (Jvm.Cond.castable "MouldVotes$Reader" "java/lang/Object") ∈ lw_tbl := lw_at lw_m9 204 rfl
theorem q139 : (Jvm.Cond.initialized "MouldVotes$Wrong") ∈ lw_all := lw_g (lw_at lw_m1 19 rfl) rfl
theorem q401 : (Jvm.Cond.selects "MouldVotes$Wrong" ({ cls := "java/lang/Object", name := "getClass", desc := "()Ljava/lang/Class;" } : Jvm.MethodName) ({ cls := "java/lang/Object", name := "getClass", desc := "()Ljava/lang/Class;" } : Jvm.MethodName)) ∈ lw_all := lw_g (lw_at lw_m2 41 rfl) rfl
theorem q775 : (Jvm.Cond.selects "MouldVotes$Wrong" ({ cls := "java/lang/Throwable", name := "fillInStackTrace", desc := "()Ljava/lang/Throwable;" } : Jvm.MethodName) ({ cls := "java/lang/Throwable", name := "fillInStackTrace", desc := "()Ljava/lang/Throwable;" } : Jvm.MethodName)) ∈ lw_all := lw_g (lw_at lw_m3 175 rfl) rfl
theorem q1013 : (Jvm.Cond.instantiable "MouldVotes$Wrong" (7 : Nat)) ∈ lw_all := lw_g (lw_at lw_m4 173 rfl) rfl
theorem q1014 : (Jvm.Cond.castable "MouldVotes$Wrong" "MouldVotes$Wrong") ∈ lw_tbl := lw_at lw_m4 174 rfl
theorem q1015 : (Jvm.Cond.selects "MouldVotes$Wrong" ({ cls := "java/lang/Throwable", name := "fillInStackTrace", desc := "(I)Ljava/lang/Throwable;" } : Jvm.MethodName) ({ cls := "java/lang/Throwable", name := "fillInStackTrace", desc := "(I)Ljava/lang/Throwable;" } : Jvm.MethodName)) ∈ lw_all := lw_g (lw_at lw_m4 175 rfl) rfl
theorem q1016 : (Jvm.Cond.lays "MouldVotes$Wrong" "java/lang/Throwable" "cause" "Ljava/lang/Throwable;") ∈ lw_all := lw_g (lw_at lw_m4 176 rfl) rfl
theorem q1017 : (Jvm.Cond.lays "MouldVotes$Wrong" "java/lang/Throwable" "stackTrace" "[Ljava/lang/StackTraceElement;") ∈ lw_all := lw_g (lw_at lw_m4 177 rfl) rfl
theorem q1018 : (Jvm.Cond.lays "MouldVotes$Wrong" "java/lang/Throwable" "suppressedExceptions" "Ljava/util/List;") ∈ lw_all := lw_g (lw_at lw_m4 178 rfl) rfl
theorem q1019 : (Jvm.Cond.lays "MouldVotes$Wrong" "java/lang/Throwable" "detailMessage" "Ljava/lang/String;") ∈ lw_all := lw_g (lw_at lw_m4 179 rfl) rfl
theorem q1020 : (Jvm.Cond.lays "MouldVotes$Wrong" "java/lang/Throwable" "backtrace" "Ljava/lang/Object;") ∈ lw_all := lw_g (lw_at lw_m4 180 rfl) rfl
theorem q1022 : (Jvm.Cond.instanceMethod ({ cls := "MouldVotes$Wrong", name := "<init>", desc := "(I)V" } : Jvm.MethodName)) ∈ lw_all := lw_g (lw_at lw_m4 182 rfl) rfl
theorem q1023 : (Jvm.Cond.code ({ cls := "MouldVotes$Wrong", name := "<init>", desc := "(I)V" } : Jvm.MethodName) prog_10_method_1_code (2 : Nat) (Option.none : Option Jvm.ClassFile.FieldType)) ∈ lw_all := lw_g (lw_at lw_m4 183 rfl) rfl
theorem q1024 : (Jvm.Cond.methodLink "MouldVotes$Wrong" (1 : Nat) ({ cls := "java/lang/Exception", name := "<init>", desc := "(Ljava/lang/String;Ljava/lang/Throwable;ZZ)V" } : Jvm.MethodName)) ∈ lw_all := lw_g (lw_at lw_m4 184 rfl) rfl
theorem q1030 : (Jvm.Cond.fieldLink "MouldVotes$Wrong" (7 : Nat) "MouldVotes$Wrong" "kind" "I") ∈ lw_all := lw_g (lw_at lw_m4 190 rfl) rfl
theorem q1032 : (Jvm.Cond.laysFinal "MouldVotes$Wrong" "MouldVotes$Wrong" "kind" "I") ∈ lw_all := lw_g (lw_at lw_m4 192 rfl) rfl
theorem q1033 : (Jvm.Cond.soleField "MouldVotes$Wrong" "kind") ∈ lw_all := lw_g (lw_at lw_m4 193 rfl) rfl
theorem q1034 : (Jvm.Cond.lays "MouldVotes$Wrong" "java/lang/Throwable" "depth" "I") ∈ lw_all := lw_g (lw_at lw_m4 194 rfl) rfl
theorem q1035 : (Jvm.Cond.superclass "MouldVotes$Wrong" "java/lang/Exception") ∈ lw_all := lw_g (lw_at lw_m4 195 rfl) rfl
theorem q2245 : (Jvm.Cond.castable "MouldVotes$Wrong" "java/lang/Object") ∈ lw_tbl := lw_at lw_m9 205 rfl
theorem q146 : (Jvm.Cond.initialized "MouldVotes$Chain") ∈ lw_all := lw_g (lw_at lw_m1 26 rfl) rfl
theorem q394 : (Jvm.Cond.selects "MouldVotes$Chain" ({ cls := "java/lang/Object", name := "getClass", desc := "()Ljava/lang/Class;" } : Jvm.MethodName) ({ cls := "java/lang/Object", name := "getClass", desc := "()Ljava/lang/Class;" } : Jvm.MethodName)) ∈ lw_all := lw_g (lw_at lw_m2 34 rfl) rfl
theorem q521 : (Jvm.Cond.castable "MouldVotes$Chain" "MouldVotes$Form") ∈ lw_tbl := lw_at lw_m2 161 rfl
theorem q522 : (Jvm.Cond.selects "MouldVotes$Chain" ({ cls := "MouldVotes$Form", name := "of", desc := "([I)I" } : Jvm.MethodName) ({ cls := "MouldVotes$Chain", name := "of", desc := "([I)I" } : Jvm.MethodName)) ∈ lw_all := lw_g (lw_at lw_m2 162 rfl) rfl
theorem q523 : (Jvm.Cond.unhidden "MouldVotes$Chain" "of" "([I)I") ∈ lw_tbl := lw_at lw_m2 163 rfl
theorem q524 : (Jvm.Cond.instanceMethod ({ cls := "MouldVotes$Chain", name := "of", desc := "([I)I" } : Jvm.MethodName)) ∈ lw_all := lw_g (lw_at lw_m2 164 rfl) rfl
theorem q525 : (Jvm.Cond.publicMethod ({ cls := "MouldVotes$Chain", name := "of", desc := "([I)I" } : Jvm.MethodName)) ∈ lw_tbl := lw_at lw_m2 165 rfl
theorem q526 : (Jvm.Cond.code ({ cls := "MouldVotes$Chain", name := "of", desc := "([I)I" } : Jvm.MethodName) prog_2_method_4_code (4 : Nat) (Option.some Jvm.ClassFile.FieldType.int)) ∈ lw_all := lw_g (lw_at lw_m2 166 rfl) rfl
theorem q527 : (Jvm.Cond.interfaceEntry "MouldVotes$Chain" (37 : Nat)) ∈ lw_tbl := lw_at lw_m2 167 rfl
theorem q528 : (Jvm.Cond.methodLink "MouldVotes$Chain" (37 : Nat) ({ cls := "java/util/List", name := "get", desc := "(I)Ljava/lang/Object;" } : Jvm.MethodName)) ∈ lw_all := lw_g (lw_at lw_m2 168 rfl) rfl
theorem q529 : (Jvm.Cond.classLink "MouldVotes$Chain" (41 : Nat) "MouldVotes$Form") ∈ lw_all := lw_g (lw_at lw_m2 169 rfl) rfl
theorem q530 : (Jvm.Cond.interfaceEntry "MouldVotes$Chain" (43 : Nat)) ∈ lw_tbl := lw_at lw_m2 170 rfl
theorem q531 : (Jvm.Cond.methodLink "MouldVotes$Chain" (43 : Nat) ({ cls := "MouldVotes$Form", name := "of", desc := "([I)I" } : Jvm.MethodName)) ∈ lw_all := lw_g (lw_at lw_m2 171 rfl) rfl
theorem q552 : (Jvm.Cond.interfaceEntry "MouldVotes$Chain" (33 : Nat)) ∈ lw_tbl := lw_at lw_m2 192 rfl
theorem q553 : (Jvm.Cond.methodLink "MouldVotes$Chain" (33 : Nat) ({ cls := "java/util/List", name := "size", desc := "()I" } : Jvm.MethodName)) ∈ lw_all := lw_g (lw_at lw_m2 193 rfl) rfl
theorem q554 : (Jvm.Cond.methodLink "MouldVotes$Chain" (47 : Nat) ({ cls := "java/lang/StringBuilder", name := "charAt", desc := "(I)C" } : Jvm.MethodName)) ∈ lw_all := lw_g (lw_at lw_m2 194 rfl) rfl
theorem q581 : (Jvm.Cond.methodLink "MouldVotes$Chain" (51 : Nat) ({ cls := "MouldVotes$Chain", name := "by", desc := "(CII)I" } : Jvm.MethodName)) ∈ lw_all := lw_g (lw_at lw_m2 221 rfl) rfl
theorem q582 : (Jvm.Cond.static ({ cls := "MouldVotes$Chain", name := "by", desc := "(CII)I" } : Jvm.MethodName)) ∈ lw_all := lw_g (lw_at lw_m2 222 rfl) rfl
theorem q583 : (Jvm.Cond.code ({ cls := "MouldVotes$Chain", name := "by", desc := "(CII)I" } : Jvm.MethodName) prog_2_method_5_code (3 : Nat) (Option.some Jvm.ClassFile.FieldType.int)) ∈ lw_all := lw_g (lw_at lw_m2 223 rfl) rfl
theorem q1063 : (Jvm.Cond.instantiable "MouldVotes$Chain" (2 : Nat)) ∈ lw_all := lw_g (lw_at lw_m4 223 rfl) rfl
theorem q1106 : (Jvm.Cond.instanceMethod ({ cls := "MouldVotes$Chain", name := "<init>", desc := "(LMouldVotes$Form;)V" } : Jvm.MethodName)) ∈ lw_all := lw_g (lw_at lw_m5 26 rfl) rfl
theorem q1107 : (Jvm.Cond.code ({ cls := "MouldVotes$Chain", name := "<init>", desc := "(LMouldVotes$Form;)V" } : Jvm.MethodName) prog_2_method_1_code (2 : Nat) (Option.none : Option Jvm.ClassFile.FieldType)) ∈ lw_all := lw_g (lw_at lw_m5 27 rfl) rfl
theorem q1108 : (Jvm.Cond.methodLink "MouldVotes$Chain" (1 : Nat) ({ cls := "java/lang/Object", name := "<init>", desc := "()V" } : Jvm.MethodName)) ∈ lw_all := lw_g (lw_at lw_m5 28 rfl) rfl
theorem q1109 : (Jvm.Cond.classLink "MouldVotes$Chain" (7 : Nat) "java/util/ArrayList") ∈ lw_all := lw_g (lw_at lw_m5 29 rfl) rfl
theorem q1110 : (Jvm.Cond.methodLink "MouldVotes$Chain" (9 : Nat) ({ cls := "java/util/ArrayList", name := "<init>", desc := "()V" } : Jvm.MethodName)) ∈ lw_all := lw_g (lw_at lw_m5 30 rfl) rfl
theorem q1111 : (Jvm.Cond.classLink "MouldVotes$Chain" (16 : Nat) "java/lang/StringBuilder") ∈ lw_all := lw_g (lw_at lw_m5 31 rfl) rfl
theorem q1113 : (Jvm.Cond.methodLink "MouldVotes$Chain" (18 : Nat) ({ cls := "java/lang/StringBuilder", name := "<init>", desc := "()V" } : Jvm.MethodName)) ∈ lw_all := lw_g (lw_at lw_m5 33 rfl) rfl
theorem q1139 : (Jvm.Cond.interfaceEntry "MouldVotes$Chain" (23 : Nat)) ∈ lw_tbl := lw_at lw_m5 59 rfl
theorem q1140 : (Jvm.Cond.methodLink "MouldVotes$Chain" (23 : Nat) ({ cls := "java/util/List", name := "add", desc := "(Ljava/lang/Object;)Z" } : Jvm.MethodName)) ∈ lw_all := lw_g (lw_at lw_m5 60 rfl) rfl
theorem q1141 : (Jvm.Cond.fieldLink "MouldVotes$Chain" (10 : Nat) "MouldVotes$Chain" "forms" "Ljava/util/List;") ∈ lw_all := lw_g (lw_at lw_m5 61 rfl) rfl
theorem q1142 : (Jvm.Cond.fieldLink "MouldVotes$Chain" (19 : Nat) "MouldVotes$Chain" "signs" "Ljava/lang/StringBuilder;") ∈ lw_all := lw_g (lw_at lw_m5 62 rfl) rfl
theorem q1143 : (Jvm.Cond.laysFinal "MouldVotes$Chain" "MouldVotes$Chain" "forms" "Ljava/util/List;") ∈ lw_all := lw_g (lw_at lw_m5 63 rfl) rfl
theorem q1144 : (Jvm.Cond.soleField "MouldVotes$Chain" "forms") ∈ lw_all := lw_g (lw_at lw_m5 64 rfl) rfl
theorem q1145 : (Jvm.Cond.laysFinal "MouldVotes$Chain" "MouldVotes$Chain" "signs" "Ljava/lang/StringBuilder;") ∈ lw_all := lw_g (lw_at lw_m5 65 rfl) rfl
theorem q1146 : (Jvm.Cond.soleField "MouldVotes$Chain" "signs") ∈ lw_all := lw_g (lw_at lw_m5 66 rfl) rfl
theorem q1147 : (Jvm.Cond.superclass "MouldVotes$Chain" "java/lang/Object") ∈ lw_all := lw_g (lw_at lw_m5 67 rfl) rfl
theorem q1153 : (Jvm.Cond.instanceMethod ({ cls := "MouldVotes$Chain", name := "add", desc := "(CLMouldVotes$Form;)V" } : Jvm.MethodName)) ∈ lw_all := lw_g (lw_at lw_m5 73 rfl) rfl
theorem q1154 : (Jvm.Cond.selects "MouldVotes$Chain" ({ cls := "MouldVotes$Chain", name := "add", desc := "(CLMouldVotes$Form;)V" } : Jvm.MethodName) ({ cls := "MouldVotes$Chain", name := "add", desc := "(CLMouldVotes$Form;)V" } : Jvm.MethodName)) ∈ lw_all := lw_g (lw_at lw_m5 74 rfl) rfl
theorem q1155 : (Jvm.Cond.code ({ cls := "MouldVotes$Chain", name := "add", desc := "(CLMouldVotes$Form;)V" } : Jvm.MethodName) prog_2_method_2_code (3 : Nat) (Option.none : Option Jvm.ClassFile.FieldType)) ∈ lw_all := lw_g (lw_at lw_m5 75 rfl) rfl
theorem q1156 : (Jvm.Cond.methodLink "MouldVotes$Chain" (29 : Nat) ({ cls := "java/lang/StringBuilder", name := "append", desc := "(C)Ljava/lang/StringBuilder;" } : Jvm.MethodName)) ∈ lw_all := lw_g (lw_at lw_m5 76 rfl) rfl
theorem q1217 : (Jvm.Cond.instanceMethod ({ cls := "MouldVotes$Chain", name := "plain", desc := "()LMouldVotes$Form;" } : Jvm.MethodName)) ∈ lw_all := lw_g (lw_at lw_m5 137 rfl) rfl
theorem q1218 : (Jvm.Cond.selects "MouldVotes$Chain" ({ cls := "MouldVotes$Chain", name := "plain", desc := "()LMouldVotes$Form;" } : Jvm.MethodName) ({ cls := "MouldVotes$Chain", name := "plain", desc := "()LMouldVotes$Form;" } : Jvm.MethodName)) ∈ lw_all := lw_g (lw_at lw_m5 138 rfl) rfl
theorem q1219 : (Jvm.Cond.code ({ cls := "MouldVotes$Chain", name := "plain", desc := "()LMouldVotes$Form;" } : Jvm.MethodName) prog_2_method_3_code (1 : Nat) (Option.some (Jvm.ClassFile.FieldType.object "MouldVotes$Form"))) ∈ lw_all := lw_g (lw_at lw_m5 139 rfl) rfl
theorem q2247 : (Jvm.Cond.castable "MouldVotes$Chain" "java/lang/Object") ∈ lw_tbl := lw_at lw_m9 207 rfl
theorem q147 : (Jvm.Cond.initialized "MouldVotes$Number") ∈ lw_all := lw_g (lw_at lw_m1 27 rfl) rfl
theorem q397 : (Jvm.Cond.selects "MouldVotes$Number" ({ cls := "java/lang/Object", name := "getClass", desc := "()Ljava/lang/Class;" } : Jvm.MethodName) ({ cls := "java/lang/Object", name := "getClass", desc := "()Ljava/lang/Class;" } : Jvm.MethodName)) ∈ lw_all := lw_g (lw_at lw_m2 37 rfl) rfl
theorem q540 : (Jvm.Cond.castable "MouldVotes$Number" "MouldVotes$Form") ∈ lw_tbl := lw_at lw_m2 180 rfl
theorem q541 : (Jvm.Cond.selects "MouldVotes$Number" ({ cls := "MouldVotes$Form", name := "of", desc := "([I)I" } : Jvm.MethodName) ({ cls := "MouldVotes$Number", name := "of", desc := "([I)I" } : Jvm.MethodName)) ∈ lw_all := lw_g (lw_at lw_m2 181 rfl) rfl
theorem q542 : (Jvm.Cond.unhidden "MouldVotes$Number" "of" "([I)I") ∈ lw_tbl := lw_at lw_m2 182 rfl
theorem q543 : (Jvm.Cond.instanceMethod ({ cls := "MouldVotes$Number", name := "of", desc := "([I)I" } : Jvm.MethodName)) ∈ lw_all := lw_g (lw_at lw_m2 183 rfl) rfl
theorem q544 : (Jvm.Cond.publicMethod ({ cls := "MouldVotes$Number", name := "of", desc := "([I)I" } : Jvm.MethodName)) ∈ lw_tbl := lw_at lw_m2 184 rfl
theorem q545 : (Jvm.Cond.code ({ cls := "MouldVotes$Number", name := "of", desc := "([I)I" } : Jvm.MethodName) prog_6_method_2_code (2 : Nat) (Option.some Jvm.ClassFile.FieldType.int)) ∈ lw_all := lw_g (lw_at lw_m2 185 rfl) rfl
theorem q1086 : (Jvm.Cond.instantiable "MouldVotes$Number" (1 : Nat)) ∈ lw_all := lw_g (lw_at lw_m5 6 rfl) rfl
theorem q1088 : (Jvm.Cond.instanceMethod ({ cls := "MouldVotes$Number", name := "<init>", desc := "(I)V" } : Jvm.MethodName)) ∈ lw_all := lw_g (lw_at lw_m5 8 rfl) rfl
theorem q1089 : (Jvm.Cond.code ({ cls := "MouldVotes$Number", name := "<init>", desc := "(I)V" } : Jvm.MethodName) prog_6_method_1_code (2 : Nat) (Option.none : Option Jvm.ClassFile.FieldType)) ∈ lw_all := lw_g (lw_at lw_m5 9 rfl) rfl
theorem q1090 : (Jvm.Cond.methodLink "MouldVotes$Number" (1 : Nat) ({ cls := "java/lang/Object", name := "<init>", desc := "()V" } : Jvm.MethodName)) ∈ lw_all := lw_g (lw_at lw_m5 10 rfl) rfl
theorem q1091 : (Jvm.Cond.fieldLink "MouldVotes$Number" (7 : Nat) "MouldVotes$Number" "value" "I") ∈ lw_all := lw_g (lw_at lw_m5 11 rfl) rfl
theorem q1092 : (Jvm.Cond.laysFinal "MouldVotes$Number" "MouldVotes$Number" "value" "I") ∈ lw_all := lw_g (lw_at lw_m5 12 rfl) rfl
theorem q1093 : (Jvm.Cond.soleField "MouldVotes$Number" "value") ∈ lw_all := lw_g (lw_at lw_m5 13 rfl) rfl
theorem q1094 : (Jvm.Cond.superclass "MouldVotes$Number" "java/lang/Object") ∈ lw_all := lw_g (lw_at lw_m5 14 rfl) rfl
theorem q2248 : (Jvm.Cond.castable "MouldVotes$Number" "java/lang/Object") ∈ lw_tbl := lw_at lw_m9 208 rfl
theorem q148 : (Jvm.Cond.initialized "MouldVotes$Value") ∈ lw_all := lw_g (lw_at lw_m1 28 rfl) rfl
theorem q400 : (Jvm.Cond.selects "MouldVotes$Value" ({ cls := "java/lang/Object", name := "getClass", desc := "()Ljava/lang/Class;" } : Jvm.MethodName) ({ cls := "java/lang/Object", name := "getClass", desc := "()Ljava/lang/Class;" } : Jvm.MethodName)) ∈ lw_all := lw_g (lw_at lw_m2 40 rfl) rfl
theorem q546 : (Jvm.Cond.castable "MouldVotes$Value" "MouldVotes$Form") ∈ lw_tbl := lw_at lw_m2 186 rfl
theorem q547 : (Jvm.Cond.selects "MouldVotes$Value" ({ cls := "MouldVotes$Form", name := "of", desc := "([I)I" } : Jvm.MethodName) ({ cls := "MouldVotes$Value", name := "of", desc := "([I)I" } : Jvm.MethodName)) ∈ lw_all := lw_g (lw_at lw_m2 187 rfl) rfl
theorem q548 : (Jvm.Cond.unhidden "MouldVotes$Value" "of" "([I)I") ∈ lw_tbl := lw_at lw_m2 188 rfl
theorem q549 : (Jvm.Cond.instanceMethod ({ cls := "MouldVotes$Value", name := "of", desc := "([I)I" } : Jvm.MethodName)) ∈ lw_all := lw_g (lw_at lw_m2 189 rfl) rfl
theorem q550 : (Jvm.Cond.publicMethod ({ cls := "MouldVotes$Value", name := "of", desc := "([I)I" } : Jvm.MethodName)) ∈ lw_tbl := lw_at lw_m2 190 rfl
theorem q551 : (Jvm.Cond.code ({ cls := "MouldVotes$Value", name := "of", desc := "([I)I" } : Jvm.MethodName) prog_9_method_2_code (2 : Nat) (Option.some Jvm.ClassFile.FieldType.int)) ∈ lw_all := lw_g (lw_at lw_m2 191 rfl) rfl
theorem q1096 : (Jvm.Cond.instantiable "MouldVotes$Value" (1 : Nat)) ∈ lw_all := lw_g (lw_at lw_m5 16 rfl) rfl
theorem q1098 : (Jvm.Cond.instanceMethod ({ cls := "MouldVotes$Value", name := "<init>", desc := "(I)V" } : Jvm.MethodName)) ∈ lw_all := lw_g (lw_at lw_m5 18 rfl) rfl
theorem q1099 : (Jvm.Cond.code ({ cls := "MouldVotes$Value", name := "<init>", desc := "(I)V" } : Jvm.MethodName) prog_9_method_1_code (2 : Nat) (Option.none : Option Jvm.ClassFile.FieldType)) ∈ lw_all := lw_g (lw_at lw_m5 19 rfl) rfl
theorem q1100 : (Jvm.Cond.methodLink "MouldVotes$Value" (1 : Nat) ({ cls := "java/lang/Object", name := "<init>", desc := "()V" } : Jvm.MethodName)) ∈ lw_all := lw_g (lw_at lw_m5 20 rfl) rfl
theorem q1101 : (Jvm.Cond.fieldLink "MouldVotes$Value" (7 : Nat) "MouldVotes$Value" "which" "I") ∈ lw_all := lw_g (lw_at lw_m5 21 rfl) rfl
theorem q1102 : (Jvm.Cond.laysFinal "MouldVotes$Value" "MouldVotes$Value" "which" "I") ∈ lw_all := lw_g (lw_at lw_m5 22 rfl) rfl
theorem q1103 : (Jvm.Cond.soleField "MouldVotes$Value" "which") ∈ lw_all := lw_g (lw_at lw_m5 23 rfl) rfl
theorem q1104 : (Jvm.Cond.superclass "MouldVotes$Value" "java/lang/Object") ∈ lw_all := lw_g (lw_at lw_m5 24 rfl) rfl
theorem q2249 : (Jvm.Cond.castable "MouldVotes$Value" "java/lang/Object") ∈ lw_tbl := lw_at lw_m9 209 rfl
theorem q152 : (Jvm.Cond.initialized "MouldVotes$Not") ∈ lw_all := lw_g (lw_at lw_m1 32 rfl) rfl
theorem q396 : (Jvm.Cond.selects "MouldVotes$Not" ({ cls := "java/lang/Object", name := "getClass", desc := "()Ljava/lang/Class;" } : Jvm.MethodName) ({ cls := "java/lang/Object", name := "getClass", desc := "()Ljava/lang/Class;" } : Jvm.MethodName)) ∈ lw_all := lw_g (lw_at lw_m2 36 rfl) rfl
theorem q532 : (Jvm.Cond.castable "MouldVotes$Not" "MouldVotes$Form") ∈ lw_tbl := lw_at lw_m2 172 rfl
theorem q533 : (Jvm.Cond.selects "MouldVotes$Not" ({ cls := "MouldVotes$Form", name := "of", desc := "([I)I" } : Jvm.MethodName) ({ cls := "MouldVotes$Not", name := "of", desc := "([I)I" } : Jvm.MethodName)) ∈ lw_all := lw_g (lw_at lw_m2 173 rfl) rfl
theorem q534 : (Jvm.Cond.unhidden "MouldVotes$Not" "of" "([I)I") ∈ lw_tbl := lw_at lw_m2 174 rfl
theorem q535 : (Jvm.Cond.instanceMethod ({ cls := "MouldVotes$Not", name := "of", desc := "([I)I" } : Jvm.MethodName)) ∈ lw_all := lw_g (lw_at lw_m2 175 rfl) rfl
theorem q536 : (Jvm.Cond.publicMethod ({ cls := "MouldVotes$Not", name := "of", desc := "([I)I" } : Jvm.MethodName)) ∈ lw_tbl := lw_at lw_m2 176 rfl
theorem q537 : (Jvm.Cond.code ({ cls := "MouldVotes$Not", name := "of", desc := "([I)I" } : Jvm.MethodName) prog_5_method_2_code (2 : Nat) (Option.some Jvm.ClassFile.FieldType.int)) ∈ lw_all := lw_g (lw_at lw_m2 177 rfl) rfl
theorem q538 : (Jvm.Cond.interfaceEntry "MouldVotes$Not" (13 : Nat)) ∈ lw_tbl := lw_at lw_m2 178 rfl
theorem q539 : (Jvm.Cond.methodLink "MouldVotes$Not" (13 : Nat) ({ cls := "MouldVotes$Form", name := "of", desc := "([I)I" } : Jvm.MethodName)) ∈ lw_all := lw_g (lw_at lw_m2 179 rfl) rfl
theorem q1221 : (Jvm.Cond.instantiable "MouldVotes$Not" (1 : Nat)) ∈ lw_all := lw_g (lw_at lw_m5 141 rfl) rfl
theorem q1223 : (Jvm.Cond.instanceMethod ({ cls := "MouldVotes$Not", name := "<init>", desc := "(LMouldVotes$Form;)V" } : Jvm.MethodName)) ∈ lw_all := lw_g (lw_at lw_m5 143 rfl) rfl
theorem q1224 : (Jvm.Cond.code ({ cls := "MouldVotes$Not", name := "<init>", desc := "(LMouldVotes$Form;)V" } : Jvm.MethodName) prog_5_method_1_code (2 : Nat) (Option.none : Option Jvm.ClassFile.FieldType)) ∈ lw_all := lw_g (lw_at lw_m5 144 rfl) rfl
theorem q1225 : (Jvm.Cond.methodLink "MouldVotes$Not" (1 : Nat) ({ cls := "java/lang/Object", name := "<init>", desc := "()V" } : Jvm.MethodName)) ∈ lw_all := lw_g (lw_at lw_m5 145 rfl) rfl
theorem q1226 : (Jvm.Cond.fieldLink "MouldVotes$Not" (7 : Nat) "MouldVotes$Not" "form" "LMouldVotes$Form;") ∈ lw_all := lw_g (lw_at lw_m5 146 rfl) rfl
theorem q1227 : (Jvm.Cond.laysFinal "MouldVotes$Not" "MouldVotes$Not" "form" "LMouldVotes$Form;") ∈ lw_all := lw_g (lw_at lw_m5 147 rfl) rfl
theorem q1228 : (Jvm.Cond.soleField "MouldVotes$Not" "form") ∈ lw_all := lw_g (lw_at lw_m5 148 rfl) rfl
theorem q1229 : (Jvm.Cond.superclass "MouldVotes$Not" "java/lang/Object") ∈ lw_all := lw_g (lw_at lw_m5 149 rfl) rfl
theorem q2251 : (Jvm.Cond.castable "MouldVotes$Not" "java/lang/Object") ∈ lw_tbl := lw_at lw_m9 211 rfl
theorem q123 : (Jvm.Cond.initialized "java/util/AbstractCollection") ∈ lw_all := lw_g (lw_at lw_m1 3 rfl) rfl
theorem q177 : (Jvm.Cond.instanceMethod ({ cls := "java/util/AbstractCollection", name := "<init>", desc := "()V" } : Jvm.MethodName)) ∈ lw_all := lw_g (lw_at lw_m1 57 rfl) rfl
theorem q178 : (Jvm.Cond.code ({ cls := "java/util/AbstractCollection", name := "<init>", desc := "()V" } : Jvm.MethodName) prog_36_method_1_code (1 : Nat) (Option.none : Option Jvm.ClassFile.FieldType)) ∈ lw_all := lw_g (lw_at lw_m1 58 rfl) rfl
theorem q179 : (Jvm.Cond.methodLink "java/util/AbstractCollection" (1 : Nat) ({ cls := "java/lang/Object", name := "<init>", desc := "()V" } : Jvm.MethodName)) ∈ lw_all := lw_g (lw_at lw_m1 59 rfl) rfl
theorem q124 : (Jvm.Cond.initialized "java/util/AbstractList") ∈ lw_all := lw_g (lw_at lw_m1 4 rfl) rfl
theorem q174 : (Jvm.Cond.instanceMethod ({ cls := "java/util/AbstractList", name := "<init>", desc := "()V" } : Jvm.MethodName)) ∈ lw_all := lw_g (lw_at lw_m1 54 rfl) rfl
theorem q175 : (Jvm.Cond.code ({ cls := "java/util/AbstractList", name := "<init>", desc := "()V" } : Jvm.MethodName) prog_37_method_1_code (1 : Nat) (Option.none : Option Jvm.ClassFile.FieldType)) ∈ lw_all := lw_g (lw_at lw_m1 55 rfl) rfl
theorem q176 : (Jvm.Cond.methodLink "java/util/AbstractList" (1 : Nat) ({ cls := "java/util/AbstractCollection", name := "<init>", desc := "()V" } : Jvm.MethodName)) ∈ lw_all := lw_g (lw_at lw_m1 56 rfl) rfl
theorem q184 : (Jvm.Cond.fieldLink "java/util/AbstractList" (7 : Nat) "java/util/AbstractList" "modCount" "I") ∈ lw_all := lw_g (lw_at lw_m1 64 rfl) rfl
theorem q192 : (Jvm.Cond.soleField "java/util/AbstractList" "modCount") ∈ lw_all := lw_g (lw_at lw_m1 72 rfl) rfl
theorem q125 : (Jvm.Cond.initialized "java/util/ArrayList") ∈ lw_all := lw_g (lw_at lw_m1 5 rfl) rfl
theorem q169 : (Jvm.Cond.instantiable "java/util/ArrayList" (3 : Nat)) ∈ lw_all := lw_g (lw_at lw_m1 49 rfl) rfl
theorem q171 : (Jvm.Cond.instanceMethod ({ cls := "java/util/ArrayList", name := "<init>", desc := "()V" } : Jvm.MethodName)) ∈ lw_all := lw_g (lw_at lw_m1 51 rfl) rfl
theorem q172 : (Jvm.Cond.code ({ cls := "java/util/ArrayList", name := "<init>", desc := "()V" } : Jvm.MethodName) prog_38_method_2_code (1 : Nat) (Option.none : Option Jvm.ClassFile.FieldType)) ∈ lw_all := lw_g (lw_at lw_m1 52 rfl) rfl
theorem q173 : (Jvm.Cond.methodLink "java/util/ArrayList" (1 : Nat) ({ cls := "java/util/AbstractList", name := "<init>", desc := "()V" } : Jvm.MethodName)) ∈ lw_all := lw_g (lw_at lw_m1 53 rfl) rfl
theorem q180 : (Jvm.Cond.fieldLink "java/util/ArrayList" (39 : Nat) "java/util/ArrayList" "DEFAULTCAPACITY_EMPTY_ELEMENTDATA" "[Ljava/lang/Object;") ∈ lw_all := lw_g (lw_at lw_m1 60 rfl) rfl
theorem q181 : (Jvm.Cond.laysStatic "java/util/ArrayList" "DEFAULTCAPACITY_EMPTY_ELEMENTDATA" "[Ljava/lang/Object;") ∈ lw_tbl := lw_at lw_m1 61 rfl
theorem q182 : (Jvm.Cond.fieldLink "java/util/ArrayList" (9 : Nat) "java/util/ArrayList" "elementData" "[Ljava/lang/Object;") ∈ lw_all := lw_g (lw_at lw_m1 62 rfl) rfl
theorem q183 : (Jvm.Cond.fieldLink "java/util/ArrayList" (48 : Nat) "java/util/ArrayList" "size" "I") ∈ lw_all := lw_g (lw_at lw_m1 63 rfl) rfl
theorem q185 : (Jvm.Cond.fieldLink "java/util/ArrayList" (63 : Nat) "java/util/ArrayList" "modCount" "I") ∈ lw_all := lw_g (lw_at lw_m1 65 rfl) rfl
theorem q186 : (Jvm.Cond.sameField "java/util/ArrayList" "java/util/AbstractList" "modCount" "I") ∈ lw_all := lw_g (lw_at lw_m1 66 rfl) rfl
theorem q187 : (Jvm.Cond.lays "java/util/ArrayList" "java/util/ArrayList" "elementData" "[Ljava/lang/Object;") ∈ lw_all := lw_g (lw_at lw_m1 67 rfl) rfl
theorem q188 : (Jvm.Cond.soleField "java/util/ArrayList" "elementData") ∈ lw_all := lw_g (lw_at lw_m1 68 rfl) rfl
theorem q189 : (Jvm.Cond.lays "java/util/ArrayList" "java/util/ArrayList" "size" "I") ∈ lw_all := lw_g (lw_at lw_m1 69 rfl) rfl
theorem q190 : (Jvm.Cond.soleField "java/util/ArrayList" "size") ∈ lw_all := lw_g (lw_at lw_m1 70 rfl) rfl
theorem q191 : (Jvm.Cond.lays "java/util/ArrayList" "java/util/AbstractList" "modCount" "I") ∈ lw_all := lw_g (lw_at lw_m1 71 rfl) rfl
theorem q193 : (Jvm.Cond.superclass "java/util/ArrayList" "java/util/AbstractList") ∈ lw_all := lw_g (lw_at lw_m1 73 rfl) rfl
theorem q359 : (Jvm.Cond.castable "java/util/ArrayList" "java/util/List") ∈ lw_tbl := lw_at lw_m1 239 rfl
theorem q360 : (Jvm.Cond.selects "java/util/ArrayList" ({ cls := "java/util/List", name := "add", desc := "(Ljava/lang/Object;)Z" } : Jvm.MethodName) ({ cls := "java/util/ArrayList", name := "add", desc := "(Ljava/lang/Object;)Z" } : Jvm.MethodName)) ∈ lw_all := lw_g (lw_at lw_m2 0 rfl) rfl
theorem q361 : (Jvm.Cond.unhidden "java/util/ArrayList" "add" "(Ljava/lang/Object;)Z") ∈ lw_tbl := lw_at lw_m2 1 rfl
theorem q362 : (Jvm.Cond.instanceMethod ({ cls := "java/util/ArrayList", name := "add", desc := "(Ljava/lang/Object;)Z" } : Jvm.MethodName)) ∈ lw_all := lw_g (lw_at lw_m2 2 rfl) rfl
theorem q363 : (Jvm.Cond.publicMethod ({ cls := "java/util/ArrayList", name := "add", desc := "(Ljava/lang/Object;)Z" } : Jvm.MethodName)) ∈ lw_tbl := lw_at lw_m2 3 rfl
theorem q364 : (Jvm.Cond.code ({ cls := "java/util/ArrayList", name := "add", desc := "(Ljava/lang/Object;)Z" } : Jvm.MethodName) prog_38_method_25_code (2 : Nat) (Option.some Jvm.ClassFile.FieldType.boolean)) ∈ lw_all := lw_g (lw_at lw_m2 4 rfl) rfl
theorem q365 : (Jvm.Cond.methodLink "java/util/ArrayList" (131 : Nat) ({ cls := "java/util/ArrayList", name := "add", desc := "(Ljava/lang/Object;[Ljava/lang/Object;I)V" } : Jvm.MethodName)) ∈ lw_all := lw_g (lw_at lw_m2 5 rfl) rfl
theorem q366 : (Jvm.Cond.privateMethod ({ cls := "java/util/ArrayList", name := "add", desc := "(Ljava/lang/Object;[Ljava/lang/Object;I)V" } : Jvm.MethodName)) ∈ lw_tbl := lw_at lw_m2 6 rfl
theorem q367 : (Jvm.Cond.instanceMethod ({ cls := "java/util/ArrayList", name := "add", desc := "(Ljava/lang/Object;[Ljava/lang/Object;I)V" } : Jvm.MethodName)) ∈ lw_all := lw_g (lw_at lw_m2 7 rfl) rfl
theorem q368 : (Jvm.Cond.code ({ cls := "java/util/ArrayList", name := "add", desc := "(Ljava/lang/Object;[Ljava/lang/Object;I)V" } : Jvm.MethodName) prog_38_method_24_code (4 : Nat) (Option.none : Option Jvm.ClassFile.FieldType)) ∈ lw_all := lw_g (lw_at lw_m2 8 rfl) rfl
theorem q369 : (Jvm.Cond.methodLink "java/util/ArrayList" (129 : Nat) ({ cls := "java/util/ArrayList", name := "grow", desc := "()[Ljava/lang/Object;" } : Jvm.MethodName)) ∈ lw_all := lw_g (lw_at lw_m2 9 rfl) rfl
theorem q370 : (Jvm.Cond.privateMethod ({ cls := "java/util/ArrayList", name := "grow", desc := "()[Ljava/lang/Object;" } : Jvm.MethodName)) ∈ lw_tbl := lw_at lw_m2 10 rfl
theorem q371 : (Jvm.Cond.instanceMethod ({ cls := "java/util/ArrayList", name := "grow", desc := "()[Ljava/lang/Object;" } : Jvm.MethodName)) ∈ lw_all := lw_g (lw_at lw_m2 11 rfl) rfl
theorem q372 : (Jvm.Cond.code ({ cls := "java/util/ArrayList", name := "grow", desc := "()[Ljava/lang/Object;" } : Jvm.MethodName) prog_38_method_7_code (1 : Nat) (Option.some (Jvm.ClassFile.FieldType.array (Jvm.ClassFile.FieldType.object "java/lang/Object")))) ∈ lw_all := lw_g (lw_at lw_m2 12 rfl) rfl
theorem q373 : (Jvm.Cond.methodLink "java/util/ArrayList" (69 : Nat) ({ cls := "java/util/ArrayList", name := "grow", desc := "(I)[Ljava/lang/Object;" } : Jvm.MethodName)) ∈ lw_all := lw_g (lw_at lw_m2 13 rfl) rfl
theorem q374 : (Jvm.Cond.privateMethod ({ cls := "java/util/ArrayList", name := "grow", desc := "(I)[Ljava/lang/Object;" } : Jvm.MethodName)) ∈ lw_tbl := lw_at lw_m2 14 rfl
theorem q375 : (Jvm.Cond.instanceMethod ({ cls := "java/util/ArrayList", name := "grow", desc := "(I)[Ljava/lang/Object;" } : Jvm.MethodName)) ∈ lw_all := lw_g (lw_at lw_m2 15 rfl) rfl
theorem q376 : (Jvm.Cond.code ({ cls := "java/util/ArrayList", name := "grow", desc := "(I)[Ljava/lang/Object;" } : Jvm.MethodName) prog_38_method_6_code (4 : Nat) (Option.some (Jvm.ClassFile.FieldType.array (Jvm.ClassFile.FieldType.object "java/lang/Object")))) ∈ lw_all := lw_g (lw_at lw_m2 16 rfl) rfl
theorem q377 : (Jvm.Cond.methodLink "java/util/ArrayList" (73 : Nat) ({ cls := "jdk/internal/util/ArraysSupport", name := "newLength", desc := "(III)I" } : Jvm.MethodName)) ∈ lw_all := lw_g (lw_at lw_m2 17 rfl) rfl
theorem q387 : (Jvm.Cond.methodLink "java/util/ArrayList" (66 : Nat) ({ cls := "java/util/Arrays", name := "copyOf", desc := "([Ljava/lang/Object;I)[Ljava/lang/Object;" } : Jvm.MethodName)) ∈ lw_all := lw_g (lw_at lw_m2 27 rfl) rfl
theorem q406 : (Jvm.Cond.selects "java/util/ArrayList" ({ cls := "java/lang/Object", name := "getClass", desc := "()Ljava/lang/Class;" } : Jvm.MethodName) ({ cls := "java/lang/Object", name := "getClass", desc := "()Ljava/lang/Class;" } : Jvm.MethodName)) ∈ lw_all := lw_g (lw_at lw_m2 46 rfl) rfl
theorem q421 : (Jvm.Cond.methodLink "java/util/ArrayList" (79 : Nat) ({ cls := "java/lang/Math", name := "max", desc := "(II)I" } : Jvm.MethodName)) ∈ lw_all := lw_g (lw_at lw_m2 61 rfl) rfl
theorem q422 : (Jvm.Cond.classLink "java/util/ArrayList" (7 : Nat) "java/lang/Object") ∈ lw_all := lw_g (lw_at lw_m2 62 rfl) rfl
theorem q427 : (Jvm.Cond.selects "java/util/ArrayList" ({ cls := "java/util/List", name := "size", desc := "()I" } : Jvm.MethodName) ({ cls := "java/util/ArrayList", name := "size", desc := "()I" } : Jvm.MethodName)) ∈ lw_all := lw_g (lw_at lw_m2 67 rfl) rfl
theorem q428 : (Jvm.Cond.unhidden "java/util/ArrayList" "size" "()I") ∈ lw_tbl := lw_at lw_m2 68 rfl
theorem q429 : (Jvm.Cond.instanceMethod ({ cls := "java/util/ArrayList", name := "size", desc := "()I" } : Jvm.MethodName)) ∈ lw_all := lw_g (lw_at lw_m2 69 rfl) rfl
theorem q430 : (Jvm.Cond.publicMethod ({ cls := "java/util/ArrayList", name := "size", desc := "()I" } : Jvm.MethodName)) ∈ lw_tbl := lw_at lw_m2 70 rfl
theorem q431 : (Jvm.Cond.code ({ cls := "java/util/ArrayList", name := "size", desc := "()I" } : Jvm.MethodName) prog_38_method_8_code (1 : Nat) (Option.some Jvm.ClassFile.FieldType.int)) ∈ lw_all := lw_g (lw_at lw_m2 71 rfl) rfl
theorem q436 : (Jvm.Cond.selects "java/util/ArrayList" ({ cls := "java/util/List", name := "remove", desc := "(I)Ljava/lang/Object;" } : Jvm.MethodName) ({ cls := "java/util/ArrayList", name := "remove", desc := "(I)Ljava/lang/Object;" } : Jvm.MethodName)) ∈ lw_all := lw_g (lw_at lw_m2 76 rfl) rfl
theorem q437 : (Jvm.Cond.unhidden "java/util/ArrayList" "remove" "(I)Ljava/lang/Object;") ∈ lw_tbl := lw_at lw_m2 77 rfl
theorem q438 : (Jvm.Cond.instanceMethod ({ cls := "java/util/ArrayList", name := "remove", desc := "(I)Ljava/lang/Object;" } : Jvm.MethodName)) ∈ lw_all := lw_g (lw_at lw_m2 78 rfl) rfl
theorem q439 : (Jvm.Cond.publicMethod ({ cls := "java/util/ArrayList", name := "remove", desc := "(I)Ljava/lang/Object;" } : Jvm.MethodName)) ∈ lw_tbl := lw_at lw_m2 79 rfl
theorem q440 : (Jvm.Cond.code ({ cls := "java/util/ArrayList", name := "remove", desc := "(I)Ljava/lang/Object;" } : Jvm.MethodName) prog_38_method_29_code (4 : Nat) (Option.some (Jvm.ClassFile.FieldType.object "java/lang/Object"))) ∈ lw_all := lw_g (lw_at lw_m2 80 rfl) rfl
theorem q441 : (Jvm.Cond.methodLink "java/util/ArrayList" (118 : Nat) ({ cls := "java/util/Objects", name := "checkIndex", desc := "(II)I" } : Jvm.MethodName)) ∈ lw_all := lw_g (lw_at lw_m2 81 rfl) rfl
theorem q447 : (Jvm.Cond.methodLink "java/util/ArrayList" (144 : Nat) ({ cls := "java/util/ArrayList", name := "fastRemove", desc := "([Ljava/lang/Object;I)V" } : Jvm.MethodName)) ∈ lw_all := lw_g (lw_at lw_m2 87 rfl) rfl
theorem q448 : (Jvm.Cond.privateMethod ({ cls := "java/util/ArrayList", name := "fastRemove", desc := "([Ljava/lang/Object;I)V" } : Jvm.MethodName)) ∈ lw_tbl := lw_at lw_m2 88 rfl
theorem q449 : (Jvm.Cond.instanceMethod ({ cls := "java/util/ArrayList", name := "fastRemove", desc := "([Ljava/lang/Object;I)V" } : Jvm.MethodName)) ∈ lw_all := lw_g (lw_at lw_m2 89 rfl) rfl
theorem q450 : (Jvm.Cond.code ({ cls := "java/util/ArrayList", name := "fastRemove", desc := "([Ljava/lang/Object;I)V" } : Jvm.MethodName) prog_38_method_39_code (4 : Nat) (Option.none : Option Jvm.ClassFile.FieldType)) ∈ lw_all := lw_g (lw_at lw_m2 90 rfl) rfl
theorem q451 : (Jvm.Cond.methodLink "java/util/ArrayList" (112 : Nat) ({ cls := "java/lang/System", name := "arraycopy", desc := "(Ljava/lang/Object;ILjava/lang/Object;II)V" } : Jvm.MethodName)) ∈ lw_all := lw_g (lw_at lw_m2 91 rfl) rfl
theorem q480 : (Jvm.Cond.selects "java/util/ArrayList" ({ cls := "java/util/List", name := "isEmpty", desc := "()Z" } : Jvm.MethodName) ({ cls := "java/util/ArrayList", name := "isEmpty", desc := "()Z" } : Jvm.MethodName)) ∈ lw_all := lw_g (lw_at lw_m2 120 rfl) rfl
theorem q481 : (Jvm.Cond.unhidden "java/util/ArrayList" "isEmpty" "()Z") ∈ lw_tbl := lw_at lw_m2 121 rfl
theorem q482 : (Jvm.Cond.instanceMethod ({ cls := "java/util/ArrayList", name := "isEmpty", desc := "()Z" } : Jvm.MethodName)) ∈ lw_all := lw_g (lw_at lw_m2 122 rfl) rfl
theorem q483 : (Jvm.Cond.publicMethod ({ cls := "java/util/ArrayList", name := "isEmpty", desc := "()Z" } : Jvm.MethodName)) ∈ lw_tbl := lw_at lw_m2 123 rfl
theorem q484 : (Jvm.Cond.code ({ cls := "java/util/ArrayList", name := "isEmpty", desc := "()Z" } : Jvm.MethodName) prog_38_method_9_code (1 : Nat) (Option.some Jvm.ClassFile.FieldType.boolean)) ∈ lw_all := lw_g (lw_at lw_m2 124 rfl) rfl
theorem q491 : (Jvm.Cond.selects "java/util/ArrayList" ({ cls := "java/util/List", name := "get", desc := "(I)Ljava/lang/Object;" } : Jvm.MethodName) ({ cls := "java/util/ArrayList", name := "get", desc := "(I)Ljava/lang/Object;" } : Jvm.MethodName)) ∈ lw_all := lw_g (lw_at lw_m2 131 rfl) rfl
theorem q492 : (Jvm.Cond.unhidden "java/util/ArrayList" "get" "(I)Ljava/lang/Object;") ∈ lw_tbl := lw_at lw_m2 132 rfl
theorem q493 : (Jvm.Cond.instanceMethod ({ cls := "java/util/ArrayList", name := "get", desc := "(I)Ljava/lang/Object;" } : Jvm.MethodName)) ∈ lw_all := lw_g (lw_at lw_m2 133 rfl) rfl
theorem q494 : (Jvm.Cond.publicMethod ({ cls := "java/util/ArrayList", name := "get", desc := "(I)Ljava/lang/Object;" } : Jvm.MethodName)) ∈ lw_tbl := lw_at lw_m2 134 rfl
theorem q495 : (Jvm.Cond.code ({ cls := "java/util/ArrayList", name := "get", desc := "(I)Ljava/lang/Object;" } : Jvm.MethodName) prog_38_method_20_code (2 : Nat) (Option.some (Jvm.ClassFile.FieldType.object "java/lang/Object"))) ∈ lw_all := lw_g (lw_at lw_m2 135 rfl) rfl
theorem q496 : (Jvm.Cond.methodLink "java/util/ArrayList" (123 : Nat) ({ cls := "java/util/ArrayList", name := "elementData", desc := "(I)Ljava/lang/Object;" } : Jvm.MethodName)) ∈ lw_all := lw_g (lw_at lw_m2 136 rfl) rfl
theorem q497 : (Jvm.Cond.instanceMethod ({ cls := "java/util/ArrayList", name := "elementData", desc := "(I)Ljava/lang/Object;" } : Jvm.MethodName)) ∈ lw_all := lw_g (lw_at lw_m2 137 rfl) rfl
theorem q498 : (Jvm.Cond.selects "java/util/ArrayList" ({ cls := "java/util/ArrayList", name := "elementData", desc := "(I)Ljava/lang/Object;" } : Jvm.MethodName) ({ cls := "java/util/ArrayList", name := "elementData", desc := "(I)Ljava/lang/Object;" } : Jvm.MethodName)) ∈ lw_all := lw_g (lw_at lw_m2 138 rfl) rfl
theorem q499 : (Jvm.Cond.code ({ cls := "java/util/ArrayList", name := "elementData", desc := "(I)Ljava/lang/Object;" } : Jvm.MethodName) prog_38_method_18_code (2 : Nat) (Option.some (Jvm.ClassFile.FieldType.object "java/lang/Object"))) ∈ lw_all := lw_g (lw_at lw_m2 139 rfl) rfl
theorem q703 : (Jvm.Cond.instanceMethod ({ cls := "java/util/ArrayList", name := "<init>", desc := "(Ljava/util/Collection;)V" } : Jvm.MethodName)) ∈ lw_all := lw_g (lw_at lw_m3 103 rfl) rfl
theorem q704 : (Jvm.Cond.code ({ cls := "java/util/ArrayList", name := "<init>", desc := "(Ljava/util/Collection;)V" } : Jvm.MethodName) prog_38_method_3_code (3 : Nat) (Option.none : Option Jvm.ClassFile.FieldType)) ∈ lw_all := lw_g (lw_at lw_m3 104 rfl) rfl
theorem q705 : (Jvm.Cond.interfaceEntry "java/util/ArrayList" (42 : Nat)) ∈ lw_tbl := lw_at lw_m3 105 rfl
theorem q706 : (Jvm.Cond.methodLink "java/util/ArrayList" (42 : Nat) ({ cls := "java/util/Collection", name := "toArray", desc := "()[Ljava/lang/Object;" } : Jvm.MethodName)) ∈ lw_all := lw_g (lw_at lw_m3 106 rfl) rfl
theorem q709 : (Jvm.Cond.castable "java/util/ArrayList" "java/util/Collection") ∈ lw_tbl := lw_at lw_m3 109 rfl
theorem q710 : (Jvm.Cond.selects "java/util/ArrayList" ({ cls := "java/util/Collection", name := "toArray", desc := "()[Ljava/lang/Object;" } : Jvm.MethodName) ({ cls := "java/util/ArrayList", name := "toArray", desc := "()[Ljava/lang/Object;" } : Jvm.MethodName)) ∈ lw_all := lw_g (lw_at lw_m3 110 rfl) rfl
theorem q711 : (Jvm.Cond.unhidden "java/util/ArrayList" "toArray" "()[Ljava/lang/Object;") ∈ lw_tbl := lw_at lw_m3 111 rfl
theorem q712 : (Jvm.Cond.instanceMethod ({ cls := "java/util/ArrayList", name := "toArray", desc := "()[Ljava/lang/Object;" } : Jvm.MethodName)) ∈ lw_all := lw_g (lw_at lw_m3 112 rfl) rfl
theorem q713 : (Jvm.Cond.publicMethod ({ cls := "java/util/ArrayList", name := "toArray", desc := "()[Ljava/lang/Object;" } : Jvm.MethodName)) ∈ lw_tbl := lw_at lw_m3 113 rfl
theorem q714 : (Jvm.Cond.code ({ cls := "java/util/ArrayList", name := "toArray", desc := "()[Ljava/lang/Object;" } : Jvm.MethodName) prog_38_method_16_code (1 : Nat) (Option.some (Jvm.ClassFile.FieldType.array (Jvm.ClassFile.FieldType.object "java/lang/Object")))) ∈ lw_all := lw_g (lw_at lw_m3 114 rfl) rfl
theorem q715 : (Jvm.Cond.interfaceEntry "java/util/ArrayList" (52 : Nat)) ∈ lw_tbl := lw_at lw_m3 115 rfl
theorem q716 : (Jvm.Cond.methodLink "java/util/ArrayList" (52 : Nat) ({ cls := "java/util/Collection", name := "getClass", desc := "()Ljava/lang/Class;" } : Jvm.MethodName)) ∈ lw_all := lw_g (lw_at lw_m3 116 rfl) rfl
theorem q719 : (Jvm.Cond.unhidden "java/util/ArrayList" "getClass" "()Ljava/lang/Class;") ∈ lw_tbl := lw_at lw_m3 119 rfl
theorem q721 : (Jvm.Cond.classLink "java/util/ArrayList" (10 : Nat) "java/util/ArrayList") ∈ lw_all := lw_g (lw_at lw_m3 121 rfl) rfl
theorem q722 : (Jvm.Cond.classLink "java/util/ArrayList" (56 : Nat) "[Ljava/lang/Object;") ∈ lw_all := lw_g (lw_at lw_m3 122 rfl) rfl
theorem q723 : (Jvm.Cond.methodLink "java/util/ArrayList" (57 : Nat) ({ cls := "java/util/Arrays", name := "copyOf", desc := "([Ljava/lang/Object;ILjava/lang/Class;)[Ljava/lang/Object;" } : Jvm.MethodName)) ∈ lw_all := lw_g (lw_at lw_m3 123 rfl) rfl
theorem q724 : (Jvm.Cond.fieldLink "java/util/ArrayList" (15 : Nat) "java/util/ArrayList" "EMPTY_ELEMENTDATA" "[Ljava/lang/Object;") ∈ lw_all := lw_g (lw_at lw_m3 124 rfl) rfl
theorem q725 : (Jvm.Cond.laysStatic "java/util/ArrayList" "EMPTY_ELEMENTDATA" "[Ljava/lang/Object;") ∈ lw_tbl := lw_at lw_m3 125 rfl
theorem q2240 : (Jvm.Cond.castable "java/util/ArrayList" "java/lang/Object") ∈ lw_tbl := lw_at lw_m9 200 rfl
theorem q128 : (Jvm.Cond.initialized "java/lang/Throwable") ∈ lw_all := lw_g (lw_at lw_m1 8 rfl) rfl
theorem q749 : (Jvm.Cond.declares ({ cls := "java/lang/Throwable", name := "<init>", desc := "()V" } : Jvm.MethodName)) ∈ lw_tbl := lw_at lw_m3 149 rfl
theorem q750 : (Jvm.Cond.declares ({ cls := "java/lang/Throwable", name := "<init>", desc := "(Ljava/lang/String;)V" } : Jvm.MethodName)) ∈ lw_tbl := lw_at lw_m3 150 rfl
theorem q754 : (Jvm.Cond.lays "java/lang/Throwable" "java/lang/Throwable" "cause" "Ljava/lang/Throwable;") ∈ lw_all := lw_g (lw_at lw_m3 154 rfl) rfl
theorem q756 : (Jvm.Cond.lays "java/lang/Throwable" "java/lang/Throwable" "stackTrace" "[Ljava/lang/StackTraceElement;") ∈ lw_all := lw_g (lw_at lw_m3 156 rfl) rfl
theorem q758 : (Jvm.Cond.lays "java/lang/Throwable" "java/lang/Throwable" "suppressedExceptions" "Ljava/util/List;") ∈ lw_all := lw_g (lw_at lw_m3 158 rfl) rfl
theorem q760 : (Jvm.Cond.lays "java/lang/Throwable" "java/lang/Throwable" "detailMessage" "Ljava/lang/String;") ∈ lw_all := lw_g (lw_at lw_m3 160 rfl) rfl
theorem q762 : (Jvm.Cond.lays "java/lang/Throwable" "java/lang/Throwable" "backtrace" "Ljava/lang/Object;") ∈ lw_all := lw_g (lw_at lw_m3 162 rfl) rfl
theorem q763 : (Jvm.Cond.fieldLink "java/lang/Throwable" (198 : Nat) "java/lang/Throwable" "backtrace" "Ljava/lang/Object;") ∈ lw_all := lw_g (lw_at lw_m3 163 rfl) rfl
theorem q764 : (Jvm.Cond.superclass "java/lang/Throwable" "java/lang/Object") ∈ lw_all := lw_g (lw_at lw_m3 164 rfl) rfl
theorem q765 : (Jvm.Cond.instanceMethod ({ cls := "java/lang/Throwable", name := "<init>", desc := "()V" } : Jvm.MethodName)) ∈ lw_all := lw_g (lw_at lw_m3 165 rfl) rfl
theorem q766 : (Jvm.Cond.code ({ cls := "java/lang/Throwable", name := "<init>", desc := "()V" } : Jvm.MethodName) prog_33_method_1_code (1 : Nat) (Option.none : Option Jvm.ClassFile.FieldType)) ∈ lw_all := lw_g (lw_at lw_m3 166 rfl) rfl
theorem q767 : (Jvm.Cond.methodLink "java/lang/Throwable" (1 : Nat) ({ cls := "java/lang/Object", name := "<init>", desc := "()V" } : Jvm.MethodName)) ∈ lw_all := lw_g (lw_at lw_m3 167 rfl) rfl
theorem q768 : (Jvm.Cond.fieldLink "java/lang/Throwable" (13 : Nat) "java/lang/Throwable" "UNASSIGNED_STACK" "[Ljava/lang/StackTraceElement;") ∈ lw_all := lw_g (lw_at lw_m3 168 rfl) rfl
theorem q769 : (Jvm.Cond.laysStatic "java/lang/Throwable" "UNASSIGNED_STACK" "[Ljava/lang/StackTraceElement;") ∈ lw_tbl := lw_at lw_m3 169 rfl
theorem q770 : (Jvm.Cond.fieldLink "java/lang/Throwable" (20 : Nat) "java/lang/Throwable" "SUPPRESSED_SENTINEL" "Ljava/util/List;") ∈ lw_all := lw_g (lw_at lw_m3 170 rfl) rfl
theorem q771 : (Jvm.Cond.laysStatic "java/lang/Throwable" "SUPPRESSED_SENTINEL" "Ljava/util/List;") ∈ lw_tbl := lw_at lw_m3 171 rfl
theorem q772 : (Jvm.Cond.methodLink "java/lang/Throwable" (27 : Nat) ({ cls := "java/lang/Throwable", name := "fillInStackTrace", desc := "()Ljava/lang/Throwable;" } : Jvm.MethodName)) ∈ lw_all := lw_g (lw_at lw_m3 172 rfl) rfl
theorem q773 : (Jvm.Cond.instanceMethod ({ cls := "java/lang/Throwable", name := "fillInStackTrace", desc := "()Ljava/lang/Throwable;" } : Jvm.MethodName)) ∈ lw_all := lw_g (lw_at lw_m3 173 rfl) rfl
theorem q774 : (Jvm.Cond.sameMethod "java/lang/Throwable" "java/lang/Throwable" "fillInStackTrace" "()Ljava/lang/Throwable;") ∈ lw_all := lw_g (lw_at lw_m3 174 rfl) rfl
theorem q777 : (Jvm.Cond.codeSync ({ cls := "java/lang/Throwable", name := "fillInStackTrace", desc := "()Ljava/lang/Throwable;" } : Jvm.MethodName) prog_33_method_18_code (1 : Nat) (Option.some (Jvm.ClassFile.FieldType.object "java/lang/Throwable"))) ∈ lw_all := lw_g (lw_at lw_m3 177 rfl) rfl
theorem q778 : (Jvm.Cond.methodLink "java/lang/Throwable" (202 : Nat) ({ cls := "java/lang/Throwable", name := "fillInStackTrace", desc := "(I)Ljava/lang/Throwable;" } : Jvm.MethodName)) ∈ lw_all := lw_g (lw_at lw_m3 178 rfl) rfl
theorem q779 : (Jvm.Cond.privateMethod ({ cls := "java/lang/Throwable", name := "fillInStackTrace", desc := "(I)Ljava/lang/Throwable;" } : Jvm.MethodName)) ∈ lw_tbl := lw_at lw_m3 179 rfl
theorem q780 : (Jvm.Cond.instanceMethod ({ cls := "java/lang/Throwable", name := "fillInStackTrace", desc := "(I)Ljava/lang/Throwable;" } : Jvm.MethodName)) ∈ lw_all := lw_g (lw_at lw_m3 180 rfl) rfl
theorem q781 : (Jvm.Cond.instantiable "java/lang/Throwable" (6 : Nat)) ∈ lw_all := lw_g (lw_at lw_m3 181 rfl) rfl
theorem q782 : (Jvm.Cond.native ({ cls := "java/lang/Throwable", name := "fillInStackTrace", desc := "(I)Ljava/lang/Throwable;" } : Jvm.MethodName)) ∈ lw_all := lw_g (lw_at lw_m3 182 rfl) rfl
theorem q793 : (Jvm.Cond.fieldLink "java/lang/Throwable" (198 : Nat) "java/lang/Throwable" "backtrace" "Ljava/lang/Object;") ∈ lw_all := lw_g (lw_at lw_m3 193 rfl) rfl
theorem q794 : (Jvm.Cond.fieldLink "java/lang/Throwable" (31 : Nat) "java/lang/Throwable" "detailMessage" "Ljava/lang/String;") ∈ lw_all := lw_g (lw_at lw_m3 194 rfl) rfl
theorem q795 : (Jvm.Cond.fieldLink "java/lang/Throwable" (7 : Nat) "java/lang/Throwable" "cause" "Ljava/lang/Throwable;") ∈ lw_all := lw_g (lw_at lw_m3 195 rfl) rfl
theorem q796 : (Jvm.Cond.fieldLink "java/lang/Throwable" (17 : Nat) "java/lang/Throwable" "stackTrace" "[Ljava/lang/StackTraceElement;") ∈ lw_all := lw_g (lw_at lw_m3 196 rfl) rfl
theorem q797 : (Jvm.Cond.fieldLink "java/lang/Throwable" (24 : Nat) "java/lang/Throwable" "suppressedExceptions" "Ljava/util/List;") ∈ lw_all := lw_g (lw_at lw_m3 197 rfl) rfl
theorem q798 : (Jvm.Cond.soleField "java/lang/Throwable" "backtrace") ∈ lw_all := lw_g (lw_at lw_m3 198 rfl) rfl
theorem q799 : (Jvm.Cond.soleField "java/lang/Throwable" "detailMessage") ∈ lw_all := lw_g (lw_at lw_m3 199 rfl) rfl
theorem q800 : (Jvm.Cond.soleField "java/lang/Throwable" "cause") ∈ lw_all := lw_g (lw_at lw_m3 200 rfl) rfl
theorem q801 : (Jvm.Cond.soleField "java/lang/Throwable" "stackTrace") ∈ lw_all := lw_g (lw_at lw_m3 201 rfl) rfl
theorem q803 : (Jvm.Cond.soleField "java/lang/Throwable" "depth") ∈ lw_all := lw_g (lw_at lw_m3 203 rfl) rfl
theorem q804 : (Jvm.Cond.soleField "java/lang/Throwable" "suppressedExceptions") ∈ lw_all := lw_g (lw_at lw_m3 204 rfl) rfl
theorem q1028 : (Jvm.Cond.instanceMethod ({ cls := "java/lang/Throwable", name := "<init>", desc := "(Ljava/lang/String;Ljava/lang/Throwable;ZZ)V" } : Jvm.MethodName)) ∈ lw_all := lw_g (lw_at lw_m4 188 rfl) rfl
theorem q1029 : (Jvm.Cond.code ({ cls := "java/lang/Throwable", name := "<init>", desc := "(Ljava/lang/String;Ljava/lang/Throwable;ZZ)V" } : Jvm.MethodName) prog_33_method_5_code (5 : Nat) (Option.none : Option Jvm.ClassFile.FieldType)) ∈ lw_all := lw_g (lw_at lw_m4 189 rfl) rfl
theorem q2231 : (Jvm.Cond.sameMethod "java/lang/Throwable" "java/lang/Throwable" "fillInStackTrace" "(I)Ljava/lang/Throwable;") ∈ lw_all := lw_g (lw_at lw_m9 191 rfl) rfl
theorem q2253 : (Jvm.Cond.castable "java/lang/Throwable" "java/lang/Object") ∈ lw_tbl := lw_at lw_m9 213 rfl
theorem q129 : (Jvm.Cond.initialized "java/lang/Exception") ∈ lw_all := lw_g (lw_at lw_m1 9 rfl) rfl
theorem q747 : (Jvm.Cond.declares ({ cls := "java/lang/Exception", name := "<init>", desc := "()V" } : Jvm.MethodName)) ∈ lw_tbl := lw_at lw_m3 147 rfl
theorem q748 : (Jvm.Cond.declares ({ cls := "java/lang/Exception", name := "<init>", desc := "(Ljava/lang/String;)V" } : Jvm.MethodName)) ∈ lw_tbl := lw_at lw_m3 148 rfl
theorem q790 : (Jvm.Cond.instanceMethod ({ cls := "java/lang/Exception", name := "<init>", desc := "()V" } : Jvm.MethodName)) ∈ lw_all := lw_g (lw_at lw_m3 190 rfl) rfl
theorem q791 : (Jvm.Cond.code ({ cls := "java/lang/Exception", name := "<init>", desc := "()V" } : Jvm.MethodName) prog_20_method_1_code (1 : Nat) (Option.none : Option Jvm.ClassFile.FieldType)) ∈ lw_all := lw_g (lw_at lw_m3 191 rfl) rfl
theorem q792 : (Jvm.Cond.methodLink "java/lang/Exception" (1 : Nat) ({ cls := "java/lang/Throwable", name := "<init>", desc := "()V" } : Jvm.MethodName)) ∈ lw_all := lw_g (lw_at lw_m3 192 rfl) rfl
theorem q1025 : (Jvm.Cond.instanceMethod ({ cls := "java/lang/Exception", name := "<init>", desc := "(Ljava/lang/String;Ljava/lang/Throwable;ZZ)V" } : Jvm.MethodName)) ∈ lw_all := lw_g (lw_at lw_m4 185 rfl) rfl
theorem q1026 : (Jvm.Cond.code ({ cls := "java/lang/Exception", name := "<init>", desc := "(Ljava/lang/String;Ljava/lang/Throwable;ZZ)V" } : Jvm.MethodName) prog_20_method_5_code (5 : Nat) (Option.none : Option Jvm.ClassFile.FieldType)) ∈ lw_all := lw_g (lw_at lw_m4 186 rfl) rfl
theorem q1027 : (Jvm.Cond.methodLink "java/lang/Exception" (16 : Nat) ({ cls := "java/lang/Throwable", name := "<init>", desc := "(Ljava/lang/String;Ljava/lang/Throwable;ZZ)V" } : Jvm.MethodName)) ∈ lw_all := lw_g (lw_at lw_m4 187 rfl) rfl
theorem q130 : (Jvm.Cond.initialized "java/lang/RuntimeException") ∈ lw_all := lw_g (lw_at lw_m1 10 rfl) rfl
theorem q745 : (Jvm.Cond.declares ({ cls := "java/lang/RuntimeException", name := "<init>", desc := "()V" } : Jvm.MethodName)) ∈ lw_tbl := lw_at lw_m3 145 rfl
theorem q746 : (Jvm.Cond.declares ({ cls := "java/lang/RuntimeException", name := "<init>", desc := "(Ljava/lang/String;)V" } : Jvm.MethodName)) ∈ lw_tbl := lw_at lw_m3 146 rfl
theorem q787 : (Jvm.Cond.instanceMethod ({ cls := "java/lang/RuntimeException", name := "<init>", desc := "()V" } : Jvm.MethodName)) ∈ lw_all := lw_g (lw_at lw_m3 187 rfl) rfl
theorem q788 : (Jvm.Cond.code ({ cls := "java/lang/RuntimeException", name := "<init>", desc := "()V" } : Jvm.MethodName) prog_27_method_1_code (1 : Nat) (Option.none : Option Jvm.ClassFile.FieldType)) ∈ lw_all := lw_g (lw_at lw_m3 188 rfl) rfl
theorem q789 : (Jvm.Cond.methodLink "java/lang/RuntimeException" (1 : Nat) ({ cls := "java/lang/Exception", name := "<init>", desc := "()V" } : Jvm.MethodName)) ∈ lw_all := lw_g (lw_at lw_m3 189 rfl) rfl
theorem q131 : (Jvm.Cond.initialized "java/lang/IllegalArgumentException") ∈ lw_all := lw_g (lw_at lw_m1 11 rfl) rfl
theorem q403 : (Jvm.Cond.selects "java/lang/IllegalArgumentException" ({ cls := "java/lang/Object", name := "getClass", desc := "()Ljava/lang/Class;" } : Jvm.MethodName) ({ cls := "java/lang/Object", name := "getClass", desc := "()Ljava/lang/Class;" } : Jvm.MethodName)) ∈ lw_all := lw_g (lw_at lw_m2 43 rfl) rfl
theorem q743 : (Jvm.Cond.instantiable "java/lang/IllegalArgumentException" (6 : Nat)) ∈ lw_all := lw_g (lw_at lw_m3 143 rfl) rfl
theorem q744 : (Jvm.Cond.castable "java/lang/IllegalArgumentException" "java/lang/IllegalArgumentException") ∈ lw_tbl := lw_at lw_m3 144 rfl
theorem q751 : (Jvm.Cond.selects "java/lang/IllegalArgumentException" ({ cls := "java/lang/Throwable", name := "fillInStackTrace", desc := "(I)Ljava/lang/Throwable;" } : Jvm.MethodName) ({ cls := "java/lang/Throwable", name := "fillInStackTrace", desc := "(I)Ljava/lang/Throwable;" } : Jvm.MethodName)) ∈ lw_all := lw_g (lw_at lw_m3 151 rfl) rfl
theorem q752 : (Jvm.Cond.selects "java/lang/IllegalArgumentException" ({ cls := "java/lang/Throwable", name := "fillInStackTrace", desc := "()Ljava/lang/Throwable;" } : Jvm.MethodName) ({ cls := "java/lang/Throwable", name := "fillInStackTrace", desc := "()Ljava/lang/Throwable;" } : Jvm.MethodName)) ∈ lw_all := lw_g (lw_at lw_m3 152 rfl) rfl
theorem q753 : (Jvm.Cond.lays "java/lang/IllegalArgumentException" "java/lang/Throwable" "cause" "Ljava/lang/Throwable;") ∈ lw_all := lw_g (lw_at lw_m3 153 rfl) rfl
theorem q755 : (Jvm.Cond.lays "java/lang/IllegalArgumentException" "java/lang/Throwable" "stackTrace" "[Ljava/lang/StackTraceElement;") ∈ lw_all := lw_g (lw_at lw_m3 155 rfl) rfl
theorem q757 : (Jvm.Cond.lays "java/lang/IllegalArgumentException" "java/lang/Throwable" "suppressedExceptions" "Ljava/util/List;") ∈ lw_all := lw_g (lw_at lw_m3 157 rfl) rfl
theorem q759 : (Jvm.Cond.lays "java/lang/IllegalArgumentException" "java/lang/Throwable" "detailMessage" "Ljava/lang/String;") ∈ lw_all := lw_g (lw_at lw_m3 159 rfl) rfl
theorem q761 : (Jvm.Cond.lays "java/lang/IllegalArgumentException" "java/lang/Throwable" "backtrace" "Ljava/lang/Object;") ∈ lw_all := lw_g (lw_at lw_m3 161 rfl) rfl
theorem q784 : (Jvm.Cond.instanceMethod ({ cls := "java/lang/IllegalArgumentException", name := "<init>", desc := "()V" } : Jvm.MethodName)) ∈ lw_all := lw_g (lw_at lw_m3 184 rfl) rfl
theorem q785 : (Jvm.Cond.code ({ cls := "java/lang/IllegalArgumentException", name := "<init>", desc := "()V" } : Jvm.MethodName) prog_21_method_1_code (1 : Nat) (Option.none : Option Jvm.ClassFile.FieldType)) ∈ lw_all := lw_g (lw_at lw_m3 185 rfl) rfl
theorem q786 : (Jvm.Cond.methodLink "java/lang/IllegalArgumentException" (1 : Nat) ({ cls := "java/lang/RuntimeException", name := "<init>", desc := "()V" } : Jvm.MethodName)) ∈ lw_all := lw_g (lw_at lw_m3 186 rfl) rfl
theorem q802 : (Jvm.Cond.lays "java/lang/IllegalArgumentException" "java/lang/Throwable" "depth" "I") ∈ lw_all := lw_g (lw_at lw_m3 202 rfl) rfl
theorem q805 : (Jvm.Cond.superclass "java/lang/IllegalArgumentException" "java/lang/RuntimeException") ∈ lw_all := lw_g (lw_at lw_m3 205 rfl) rfl
theorem q2243 : (Jvm.Cond.castable "java/lang/IllegalArgumentException" "java/lang/Object") ∈ lw_tbl := lw_at lw_m9 203 rfl
theorem q133 : (Jvm.Cond.initialized "java/lang/Math") ∈ lw_all := lw_g (lw_at lw_m1 13 rfl) rfl
theorem q381 : (Jvm.Cond.static ({ cls := "java/lang/Math", name := "max", desc := "(II)I" } : Jvm.MethodName)) ∈ lw_all := lw_g (lw_at lw_m2 21 rfl) rfl
theorem q382 : (Jvm.Cond.code ({ cls := "java/lang/Math", name := "max", desc := "(II)I" } : Jvm.MethodName) prog_25_method_65_code (2 : Nat) (Option.some Jvm.ClassFile.FieldType.int)) ∈ lw_all := lw_g (lw_at lw_m2 22 rfl) rfl
theorem q416 : (Jvm.Cond.static ({ cls := "java/lang/Math", name := "min", desc := "(II)I" } : Jvm.MethodName)) ∈ lw_all := lw_g (lw_at lw_m2 56 rfl) rfl
theorem q417 : (Jvm.Cond.code ({ cls := "java/lang/Math", name := "min", desc := "(II)I" } : Jvm.MethodName) prog_25_method_69_code (2 : Nat) (Option.some Jvm.ClassFile.FieldType.int)) ∈ lw_all := lw_g (lw_at lw_m2 57 rfl) rfl
theorem q506 : (Jvm.Cond.static ({ cls := "java/lang/Math", name := "abs", desc := "(I)I" } : Jvm.MethodName)) ∈ lw_all := lw_g (lw_at lw_m2 146 rfl) rfl
theorem q507 : (Jvm.Cond.code ({ cls := "java/lang/Math", name := "abs", desc := "(I)I" } : Jvm.MethodName) prog_25_method_59_code (1 : Nat) (Option.some Jvm.ClassFile.FieldType.int)) ∈ lw_all := lw_g (lw_at lw_m2 147 rfl) rfl
theorem q134 : (Jvm.Cond.initialized "java/lang/String") ∈ lw_all := lw_g (lw_at lw_m1 14 rfl) rfl
theorem q564 : (Jvm.Cond.static ({ cls := "java/lang/String", name := "checkIndex", desc := "(II)V" } : Jvm.MethodName)) ∈ lw_all := lw_g (lw_at lw_m2 204 rfl) rfl
theorem q565 : (Jvm.Cond.code ({ cls := "java/lang/String", name := "checkIndex", desc := "(II)V" } : Jvm.MethodName) prog_28_method_155_code (2 : Nat) (Option.none : Option Jvm.ClassFile.FieldType)) ∈ lw_all := lw_g (lw_at lw_m2 205 rfl) rfl
theorem q566 : (Jvm.Cond.fieldLink "java/lang/String" (1053 : Nat) "jdk/internal/util/Preconditions" "SIOOBE_FORMATTER" "Ljava/util/function/BiFunction;") ∈ lw_all := lw_g (lw_at lw_m2 206 rfl) rfl
theorem q568 : (Jvm.Cond.methodLink "java/lang/String" (1059 : Nat) ({ cls := "jdk/internal/util/Preconditions", name := "checkIndex", desc := "(IILjava/util/function/BiFunction;)I" } : Jvm.MethodName)) ∈ lw_all := lw_g (lw_at lw_m2 208 rfl) rfl
theorem q904 : (Jvm.Cond.instanceMethod ({ cls := "java/lang/String", name := "indexOf", desc := "(I)I" } : Jvm.MethodName)) ∈ lw_all := lw_g (lw_at lw_m4 64 rfl) rfl
theorem q905 : (Jvm.Cond.selects "java/lang/String" ({ cls := "java/lang/String", name := "indexOf", desc := "(I)I" } : Jvm.MethodName) ({ cls := "java/lang/String", name := "indexOf", desc := "(I)I" } : Jvm.MethodName)) ∈ lw_all := lw_g (lw_at lw_m4 65 rfl) rfl
theorem q906 : (Jvm.Cond.code ({ cls := "java/lang/String", name := "indexOf", desc := "(I)I" } : Jvm.MethodName) prog_28_method_79_code (2 : Nat) (Option.some Jvm.ClassFile.FieldType.int)) ∈ lw_all := lw_g (lw_at lw_m4 66 rfl) rfl
theorem q907 : (Jvm.Cond.methodLink "java/lang/String" (633 : Nat) ({ cls := "java/lang/String", name := "indexOf", desc := "(II)I" } : Jvm.MethodName)) ∈ lw_all := lw_g (lw_at lw_m4 67 rfl) rfl
theorem q908 : (Jvm.Cond.instanceMethod ({ cls := "java/lang/String", name := "indexOf", desc := "(II)I" } : Jvm.MethodName)) ∈ lw_all := lw_g (lw_at lw_m4 68 rfl) rfl
theorem q909 : (Jvm.Cond.selects "java/lang/String" ({ cls := "java/lang/String", name := "indexOf", desc := "(II)I" } : Jvm.MethodName) ({ cls := "java/lang/String", name := "indexOf", desc := "(II)I" } : Jvm.MethodName)) ∈ lw_all := lw_g (lw_at lw_m4 69 rfl) rfl
theorem q910 : (Jvm.Cond.code ({ cls := "java/lang/String", name := "indexOf", desc := "(II)I" } : Jvm.MethodName) prog_28_method_80_code (3 : Nat) (Option.some Jvm.ClassFile.FieldType.int)) ∈ lw_all := lw_g (lw_at lw_m4 70 rfl) rfl
theorem q911 : (Jvm.Cond.methodLink "java/lang/String" (492 : Nat) ({ cls := "java/lang/String", name := "isLatin1", desc := "()Z" } : Jvm.MethodName)) ∈ lw_all := lw_g (lw_at lw_m4 71 rfl) rfl
theorem q912 : (Jvm.Cond.instanceMethod ({ cls := "java/lang/String", name := "isLatin1", desc := "()Z" } : Jvm.MethodName)) ∈ lw_all := lw_g (lw_at lw_m4 72 rfl) rfl
theorem q913 : (Jvm.Cond.selects "java/lang/String" ({ cls := "java/lang/String", name := "isLatin1", desc := "()Z" } : Jvm.MethodName) ({ cls := "java/lang/String", name := "isLatin1", desc := "()Z" } : Jvm.MethodName)) ∈ lw_all := lw_g (lw_at lw_m4 73 rfl) rfl
theorem q914 : (Jvm.Cond.code ({ cls := "java/lang/String", name := "isLatin1", desc := "()Z" } : Jvm.MethodName) prog_28_method_154_code (1 : Nat) (Option.some Jvm.ClassFile.FieldType.boolean)) ∈ lw_all := lw_g (lw_at lw_m4 74 rfl) rfl
theorem q915 : (Jvm.Cond.fieldLink "java/lang/String" (38 : Nat) "java/lang/String" "COMPACT_STRINGS" "Z") ∈ lw_all := lw_g (lw_at lw_m4 75 rfl) rfl
theorem q916 : (Jvm.Cond.laysStatic "java/lang/String" "COMPACT_STRINGS" "Z") ∈ lw_tbl := lw_at lw_m4 76 rfl
theorem q917 : (Jvm.Cond.methodLink "java/lang/String" (505 : Nat) ({ cls := "java/lang/String", name := "length", desc := "()I" } : Jvm.MethodName)) ∈ lw_all := lw_g (lw_at lw_m4 77 rfl) rfl
theorem q918 : (Jvm.Cond.instanceMethod ({ cls := "java/lang/String", name := "length", desc := "()I" } : Jvm.MethodName)) ∈ lw_all := lw_g (lw_at lw_m4 78 rfl) rfl
theorem q919 : (Jvm.Cond.selects "java/lang/String" ({ cls := "java/lang/String", name := "length", desc := "()I" } : Jvm.MethodName) ({ cls := "java/lang/String", name := "length", desc := "()I" } : Jvm.MethodName)) ∈ lw_all := lw_g (lw_at lw_m4 79 rfl) rfl
theorem q920 : (Jvm.Cond.code ({ cls := "java/lang/String", name := "length", desc := "()I" } : Jvm.MethodName) prog_28_method_54_code (1 : Nat) (Option.some Jvm.ClassFile.FieldType.int)) ∈ lw_all := lw_g (lw_at lw_m4 80 rfl) rfl
theorem q921 : (Jvm.Cond.methodLink "java/lang/String" (335 : Nat) ({ cls := "java/lang/String", name := "coder", desc := "()B" } : Jvm.MethodName)) ∈ lw_all := lw_g (lw_at lw_m4 81 rfl) rfl
theorem q922 : (Jvm.Cond.instanceMethod ({ cls := "java/lang/String", name := "coder", desc := "()B" } : Jvm.MethodName)) ∈ lw_all := lw_g (lw_at lw_m4 82 rfl) rfl
theorem q923 : (Jvm.Cond.selects "java/lang/String" ({ cls := "java/lang/String", name := "coder", desc := "()B" } : Jvm.MethodName) ({ cls := "java/lang/String", name := "coder", desc := "()B" } : Jvm.MethodName)) ∈ lw_all := lw_g (lw_at lw_m4 83 rfl) rfl
theorem q924 : (Jvm.Cond.code ({ cls := "java/lang/String", name := "coder", desc := "()B" } : Jvm.MethodName) prog_28_method_152_code (1 : Nat) (Option.some Jvm.ClassFile.FieldType.byte)) ∈ lw_all := lw_g (lw_at lw_m4 84 rfl) rfl
theorem q925 : (Jvm.Cond.methodLink "java/lang/String" (637 : Nat) ({ cls := "java/lang/StringLatin1", name := "indexOf", desc := "([BIII)I" } : Jvm.MethodName)) ∈ lw_all := lw_g (lw_at lw_m4 85 rfl) rfl
theorem q936 : (Jvm.Cond.methodLink "java/lang/String" (640 : Nat) ({ cls := "java/lang/StringUTF16", name := "indexOf", desc := "([BIII)I" } : Jvm.MethodName)) ∈ lw_all := lw_g (lw_at lw_m4 96 rfl) rfl
theorem q949 : (Jvm.Cond.static ({ cls := "java/lang/String", name := "checkBoundsBeginEnd", desc := "(III)V" } : Jvm.MethodName)) ∈ lw_all := lw_g (lw_at lw_m4 109 rfl) rfl
theorem q950 : (Jvm.Cond.code ({ cls := "java/lang/String", name := "checkBoundsBeginEnd", desc := "(III)V" } : Jvm.MethodName) prog_28_method_158_code (3 : Nat) (Option.none : Option Jvm.ClassFile.FieldType)) ∈ lw_all := lw_g (lw_at lw_m4 110 rfl) rfl
theorem q951 : (Jvm.Cond.methodLink "java/lang/String" (1062 : Nat) ({ cls := "jdk/internal/util/Preconditions", name := "checkFromToIndex", desc := "(IIILjava/util/function/BiFunction;)I" } : Jvm.MethodName)) ∈ lw_all := lw_g (lw_at lw_m4 111 rfl) rfl
theorem q986 : (Jvm.Cond.instanceMethod ({ cls := "java/lang/String", name := "charAt", desc := "(I)C" } : Jvm.MethodName)) ∈ lw_all := lw_g (lw_at lw_m4 146 rfl) rfl
theorem q987 : (Jvm.Cond.selects "java/lang/String" ({ cls := "java/lang/String", name := "charAt", desc := "(I)C" } : Jvm.MethodName) ({ cls := "java/lang/String", name := "charAt", desc := "(I)C" } : Jvm.MethodName)) ∈ lw_all := lw_g (lw_at lw_m4 147 rfl) rfl
theorem q988 : (Jvm.Cond.code ({ cls := "java/lang/String", name := "charAt", desc := "(I)C" } : Jvm.MethodName) prog_28_method_56_code (2 : Nat) (Option.some Jvm.ClassFile.FieldType.char)) ∈ lw_all := lw_g (lw_at lw_m4 148 rfl) rfl
theorem q989 : (Jvm.Cond.methodLink "java/lang/String" (495 : Nat) ({ cls := "java/lang/StringLatin1", name := "charAt", desc := "([BI)C" } : Jvm.MethodName)) ∈ lw_all := lw_g (lw_at lw_m4 149 rfl) rfl
theorem q993 : (Jvm.Cond.methodLink "java/lang/String" (498 : Nat) ({ cls := "java/lang/StringUTF16", name := "charAt", desc := "([BI)C" } : Jvm.MethodName)) ∈ lw_all := lw_g (lw_at lw_m4 153 rfl) rfl
theorem q1205 : (Jvm.Cond.static ({ cls := "java/lang/String", name := "checkBoundsOffCount", desc := "(III)I" } : Jvm.MethodName)) ∈ lw_all := lw_g (lw_at lw_m5 125 rfl) rfl
theorem q1206 : (Jvm.Cond.code ({ cls := "java/lang/String", name := "checkBoundsOffCount", desc := "(III)I" } : Jvm.MethodName) prog_28_method_157_code (3 : Nat) (Option.some Jvm.ClassFile.FieldType.int)) ∈ lw_all := lw_g (lw_at lw_m5 126 rfl) rfl
theorem q1207 : (Jvm.Cond.methodLink "java/lang/String" (1065 : Nat) ({ cls := "jdk/internal/util/Preconditions", name := "checkFromIndexSize", desc := "(IIILjava/util/function/BiFunction;)I" } : Jvm.MethodName)) ∈ lw_all := lw_g (lw_at lw_m5 127 rfl) rfl
theorem q2237 : (Jvm.Cond.castable "java/lang/String" "java/lang/Object") ∈ lw_tbl := lw_at lw_m9 197 rfl
theorem q2263 : (Jvm.Cond.fieldLink "java/lang/String" (15 : Nat) "java/lang/String" "coder" "B") ∈ lw_all := lw_g (lw_at lw_m9 223 rfl) rfl
theorem q2264 : (Jvm.Cond.fieldLink "java/lang/String" (9 : Nat) "java/lang/String" "value" "[B") ∈ lw_all := lw_g (lw_at lw_m9 224 rfl) rfl
theorem q135 : (Jvm.Cond.initialized "java/lang/StringLatin1") ∈ lw_all := lw_g (lw_at lw_m1 15 rfl) rfl
theorem q926 : (Jvm.Cond.static ({ cls := "java/lang/StringLatin1", name := "indexOf", desc := "([BIII)I" } : Jvm.MethodName)) ∈ lw_all := lw_g (lw_at lw_m4 86 rfl) rfl
theorem q927 : (Jvm.Cond.code ({ cls := "java/lang/StringLatin1", name := "indexOf", desc := "([BIII)I" } : Jvm.MethodName) prog_30_method_22_code (4 : Nat) (Option.some Jvm.ClassFile.FieldType.int)) ∈ lw_all := lw_g (lw_at lw_m4 87 rfl) rfl
theorem q928 : (Jvm.Cond.methodLink "java/lang/StringLatin1" (88 : Nat) ({ cls := "java/lang/StringLatin1", name := "canEncode", desc := "(I)Z" } : Jvm.MethodName)) ∈ lw_all := lw_g (lw_at lw_m4 88 rfl) rfl
theorem q929 : (Jvm.Cond.static ({ cls := "java/lang/StringLatin1", name := "canEncode", desc := "(I)Z" } : Jvm.MethodName)) ∈ lw_all := lw_g (lw_at lw_m4 89 rfl) rfl
theorem q930 : (Jvm.Cond.code ({ cls := "java/lang/StringLatin1", name := "canEncode", desc := "(I)Z" } : Jvm.MethodName) prog_30_method_4_code (1 : Nat) (Option.some Jvm.ClassFile.FieldType.boolean)) ∈ lw_all := lw_g (lw_at lw_m4 90 rfl) rfl
theorem q931 : (Jvm.Cond.methodLink "java/lang/StringLatin1" (92 : Nat) ({ cls := "java/lang/Math", name := "max", desc := "(II)I" } : Jvm.MethodName)) ∈ lw_all := lw_g (lw_at lw_m4 91 rfl) rfl
theorem q932 : (Jvm.Cond.methodLink "java/lang/StringLatin1" (38 : Nat) ({ cls := "java/lang/Math", name := "min", desc := "(II)I" } : Jvm.MethodName)) ∈ lw_all := lw_g (lw_at lw_m4 92 rfl) rfl
theorem q933 : (Jvm.Cond.methodLink "java/lang/StringLatin1" (95 : Nat) ({ cls := "java/lang/StringLatin1", name := "indexOfChar", desc := "([BIII)I" } : Jvm.MethodName)) ∈ lw_all := lw_g (lw_at lw_m4 93 rfl) rfl
theorem q934 : (Jvm.Cond.static ({ cls := "java/lang/StringLatin1", name := "indexOfChar", desc := "([BIII)I" } : Jvm.MethodName)) ∈ lw_all := lw_g (lw_at lw_m4 94 rfl) rfl
theorem q935 : (Jvm.Cond.code ({ cls := "java/lang/StringLatin1", name := "indexOfChar", desc := "([BIII)I" } : Jvm.MethodName) prog_30_method_23_code (6 : Nat) (Option.some Jvm.ClassFile.FieldType.int)) ∈ lw_all := lw_g (lw_at lw_m4 95 rfl) rfl
theorem q990 : (Jvm.Cond.static ({ cls := "java/lang/StringLatin1", name := "charAt", desc := "([BI)C" } : Jvm.MethodName)) ∈ lw_all := lw_g (lw_at lw_m4 150 rfl) rfl
theorem q991 : (Jvm.Cond.code ({ cls := "java/lang/StringLatin1", name := "charAt", desc := "([BI)C" } : Jvm.MethodName) prog_30_method_2_code (2 : Nat) (Option.some Jvm.ClassFile.FieldType.char)) ∈ lw_all := lw_g (lw_at lw_m4 151 rfl) rfl
theorem q992 : (Jvm.Cond.methodLink "java/lang/StringLatin1" (9 : Nat) ({ cls := "java/lang/String", name := "checkIndex", desc := "(II)V" } : Jvm.MethodName)) ∈ lw_all := lw_g (lw_at lw_m4 152 rfl) rfl
theorem q1189 : (Jvm.Cond.static ({ cls := "java/lang/StringLatin1", name := "canEncode", desc := "(C)Z" } : Jvm.MethodName)) ∈ lw_all := lw_g (lw_at lw_m5 109 rfl) rfl
theorem q1190 : (Jvm.Cond.code ({ cls := "java/lang/StringLatin1", name := "canEncode", desc := "(C)Z" } : Jvm.MethodName) prog_30_method_3_code (1 : Nat) (Option.some Jvm.ClassFile.FieldType.boolean)) ∈ lw_all := lw_g (lw_at lw_m5 110 rfl) rfl
theorem q1196 : (Jvm.Cond.static ({ cls := "java/lang/StringLatin1", name := "inflate", desc := "([BI[BII)V" } : Jvm.MethodName)) ∈ lw_all := lw_g (lw_at lw_m5 116 rfl) rfl
theorem q1197 : (Jvm.Cond.code ({ cls := "java/lang/StringLatin1", name := "inflate", desc := "([BI[BII)V" } : Jvm.MethodName) prog_30_method_50_code (5 : Nat) (Option.none : Option Jvm.ClassFile.FieldType)) ∈ lw_all := lw_g (lw_at lw_m5 117 rfl) rfl
theorem q1198 : (Jvm.Cond.methodLink "java/lang/StringLatin1" (240 : Nat) ({ cls := "java/lang/StringUTF16", name := "inflate", desc := "([BI[BII)V" } : Jvm.MethodName)) ∈ lw_all := lw_g (lw_at lw_m5 118 rfl) rfl
theorem q136 : (Jvm.Cond.initialized "java/lang/StringUTF16") ∈ lw_all := lw_g (lw_at lw_m1 16 rfl) rfl
theorem q570 : (Jvm.Cond.static ({ cls := "java/lang/StringUTF16", name := "getChar", desc := "([BI)C" } : Jvm.MethodName)) ∈ lw_all := lw_g (lw_at lw_m2 210 rfl) rfl
theorem q571 : (Jvm.Cond.code ({ cls := "java/lang/StringUTF16", name := "getChar", desc := "([BI)C" } : Jvm.MethodName) prog_31_method_5_code (2 : Nat) (Option.some Jvm.ClassFile.FieldType.char)) ∈ lw_all := lw_g (lw_at lw_m2 211 rfl) rfl
theorem q572 : (Jvm.Cond.fieldLink "java/lang/StringUTF16" (44 : Nat) "java/lang/StringUTF16" "$assertionsDisabled" "Z") ∈ lw_all := lw_g (lw_at lw_m2 212 rfl) rfl
theorem q573 : (Jvm.Cond.laysStatic "java/lang/StringUTF16" "$assertionsDisabled" "Z") ∈ lw_tbl := lw_at lw_m2 213 rfl
theorem q574 : (Jvm.Cond.methodLink "java/lang/StringUTF16" (48 : Nat) ({ cls := "java/lang/StringUTF16", name := "length", desc := "([B)I" } : Jvm.MethodName)) ∈ lw_all := lw_g (lw_at lw_m2 214 rfl) rfl
theorem q575 : (Jvm.Cond.static ({ cls := "java/lang/StringUTF16", name := "length", desc := "([B)I" } : Jvm.MethodName)) ∈ lw_all := lw_g (lw_at lw_m2 215 rfl) rfl
theorem q576 : (Jvm.Cond.code ({ cls := "java/lang/StringUTF16", name := "length", desc := "([B)I" } : Jvm.MethodName) prog_31_method_6_code (1 : Nat) (Option.some Jvm.ClassFile.FieldType.int)) ∈ lw_all := lw_g (lw_at lw_m2 216 rfl) rfl
theorem q577 : (Jvm.Cond.fieldLink "java/lang/StringUTF16" (59 : Nat) "java/lang/StringUTF16" "HI_BYTE_SHIFT" "I") ∈ lw_all := lw_g (lw_at lw_m2 217 rfl) rfl
theorem q578 : (Jvm.Cond.laysStatic "java/lang/StringUTF16" "HI_BYTE_SHIFT" "I") ∈ lw_tbl := lw_at lw_m2 218 rfl
theorem q579 : (Jvm.Cond.fieldLink "java/lang/StringUTF16" (63 : Nat) "java/lang/StringUTF16" "LO_BYTE_SHIFT" "I") ∈ lw_all := lw_g (lw_at lw_m2 219 rfl) rfl
theorem q580 : (Jvm.Cond.laysStatic "java/lang/StringUTF16" "LO_BYTE_SHIFT" "I") ∈ lw_tbl := lw_at lw_m2 220 rfl
theorem q937 : (Jvm.Cond.static ({ cls := "java/lang/StringUTF16", name := "indexOf", desc := "([BIII)I" } : Jvm.MethodName)) ∈ lw_all := lw_g (lw_at lw_m4 97 rfl) rfl
theorem q938 : (Jvm.Cond.code ({ cls := "java/lang/StringUTF16", name := "indexOf", desc := "([BIII)I" } : Jvm.MethodName) prog_31_method_40_code (4 : Nat) (Option.some Jvm.ClassFile.FieldType.int)) ∈ lw_all := lw_g (lw_at lw_m4 98 rfl) rfl
theorem q939 : (Jvm.Cond.methodLink "java/lang/StringUTF16" (224 : Nat) ({ cls := "java/lang/Math", name := "max", desc := "(II)I" } : Jvm.MethodName)) ∈ lw_all := lw_g (lw_at lw_m4 99 rfl) rfl
theorem q940 : (Jvm.Cond.methodLink "java/lang/StringUTF16" (183 : Nat) ({ cls := "java/lang/Math", name := "min", desc := "(II)I" } : Jvm.MethodName)) ∈ lw_all := lw_g (lw_at lw_m4 100 rfl) rfl
theorem q941 : (Jvm.Cond.constant "java/lang/StringUTF16" (227 : Nat) (65536 : Int32)) ∈ lw_all := lw_g (lw_at lw_m4 101 rfl) rfl
theorem q942 : (Jvm.Cond.methodLink "java/lang/StringUTF16" (228 : Nat) ({ cls := "java/lang/StringUTF16", name := "indexOfChar", desc := "([BIII)I" } : Jvm.MethodName)) ∈ lw_all := lw_g (lw_at lw_m4 102 rfl) rfl
theorem q943 : (Jvm.Cond.static ({ cls := "java/lang/StringUTF16", name := "indexOfChar", desc := "([BIII)I" } : Jvm.MethodName)) ∈ lw_all := lw_g (lw_at lw_m4 103 rfl) rfl
theorem q944 : (Jvm.Cond.code ({ cls := "java/lang/StringUTF16", name := "indexOfChar", desc := "([BIII)I" } : Jvm.MethodName) prog_31_method_47_code (4 : Nat) (Option.some Jvm.ClassFile.FieldType.int)) ∈ lw_all := lw_g (lw_at lw_m4 104 rfl) rfl
theorem q945 : (Jvm.Cond.methodLink "java/lang/StringUTF16" (96 : Nat) ({ cls := "java/lang/StringUTF16", name := "checkBoundsBeginEnd", desc := "(II[B)V" } : Jvm.MethodName)) ∈ lw_all := lw_g (lw_at lw_m4 105 rfl) rfl
theorem q946 : (Jvm.Cond.static ({ cls := "java/lang/StringUTF16", name := "checkBoundsBeginEnd", desc := "(II[B)V" } : Jvm.MethodName)) ∈ lw_all := lw_g (lw_at lw_m4 106 rfl) rfl
theorem q947 : (Jvm.Cond.code ({ cls := "java/lang/StringUTF16", name := "checkBoundsBeginEnd", desc := "(II[B)V" } : Jvm.MethodName) prog_31_method_93_code (3 : Nat) (Option.none : Option Jvm.ClassFile.FieldType)) ∈ lw_all := lw_g (lw_at lw_m4 107 rfl) rfl
theorem q948 : (Jvm.Cond.methodLink "java/lang/StringUTF16" (241 : Nat) ({ cls := "java/lang/String", name := "checkBoundsBeginEnd", desc := "(III)V" } : Jvm.MethodName)) ∈ lw_all := lw_g (lw_at lw_m4 108 rfl) rfl
theorem q954 : (Jvm.Cond.methodLink "java/lang/StringUTF16" (244 : Nat) ({ cls := "java/lang/StringUTF16", name := "indexOfCharUnsafe", desc := "([BIII)I" } : Jvm.MethodName)) ∈ lw_all := lw_g (lw_at lw_m4 114 rfl) rfl
theorem q955 : (Jvm.Cond.static ({ cls := "java/lang/StringUTF16", name := "indexOfCharUnsafe", desc := "([BIII)I" } : Jvm.MethodName)) ∈ lw_all := lw_g (lw_at lw_m4 115 rfl) rfl
theorem q956 : (Jvm.Cond.code ({ cls := "java/lang/StringUTF16", name := "indexOfCharUnsafe", desc := "([BIII)I" } : Jvm.MethodName) prog_31_method_48_code (5 : Nat) (Option.some Jvm.ClassFile.FieldType.int)) ∈ lw_all := lw_g (lw_at lw_m4 116 rfl) rfl
theorem q957 : (Jvm.Cond.methodLink "java/lang/StringUTF16" (71 : Nat) ({ cls := "java/lang/StringUTF16", name := "getChar", desc := "([BI)C" } : Jvm.MethodName)) ∈ lw_all := lw_g (lw_at lw_m4 117 rfl) rfl
theorem q958 : (Jvm.Cond.methodLink "java/lang/StringUTF16" (232 : Nat) ({ cls := "java/lang/StringUTF16", name := "indexOfSupplementary", desc := "([BIII)I" } : Jvm.MethodName)) ∈ lw_all := lw_g (lw_at lw_m4 118 rfl) rfl
theorem q959 : (Jvm.Cond.static ({ cls := "java/lang/StringUTF16", name := "indexOfSupplementary", desc := "([BIII)I" } : Jvm.MethodName)) ∈ lw_all := lw_g (lw_at lw_m4 119 rfl) rfl
theorem q960 : (Jvm.Cond.code ({ cls := "java/lang/StringUTF16", name := "indexOfSupplementary", desc := "([BIII)I" } : Jvm.MethodName) prog_31_method_49_code (7 : Nat) (Option.some Jvm.ClassFile.FieldType.int)) ∈ lw_all := lw_g (lw_at lw_m4 120 rfl) rfl
theorem q961 : (Jvm.Cond.methodLink "java/lang/StringUTF16" (164 : Nat) ({ cls := "java/lang/Character", name := "isValidCodePoint", desc := "(I)Z" } : Jvm.MethodName)) ∈ lw_all := lw_g (lw_at lw_m4 121 rfl) rfl
theorem q964 : (Jvm.Cond.methodLink "java/lang/StringUTF16" (157 : Nat) ({ cls := "java/lang/Character", name := "highSurrogate", desc := "(I)C" } : Jvm.MethodName)) ∈ lw_all := lw_g (lw_at lw_m4 124 rfl) rfl
theorem q968 : (Jvm.Cond.methodLink "java/lang/StringUTF16" (161 : Nat) ({ cls := "java/lang/Character", name := "lowSurrogate", desc := "(I)C" } : Jvm.MethodName)) ∈ lw_all := lw_g (lw_at lw_m4 128 rfl) rfl
theorem q994 : (Jvm.Cond.static ({ cls := "java/lang/StringUTF16", name := "charAt", desc := "([BI)C" } : Jvm.MethodName)) ∈ lw_all := lw_g (lw_at lw_m4 154 rfl) rfl
theorem q995 : (Jvm.Cond.code ({ cls := "java/lang/StringUTF16", name := "charAt", desc := "([BI)C" } : Jvm.MethodName) prog_31_method_83_code (2 : Nat) (Option.some Jvm.ClassFile.FieldType.char)) ∈ lw_all := lw_g (lw_at lw_m4 155 rfl) rfl
theorem q996 : (Jvm.Cond.methodLink "java/lang/StringUTF16" (67 : Nat) ({ cls := "java/lang/StringUTF16", name := "checkIndex", desc := "(I[B)V" } : Jvm.MethodName)) ∈ lw_all := lw_g (lw_at lw_m4 156 rfl) rfl
theorem q997 : (Jvm.Cond.static ({ cls := "java/lang/StringUTF16", name := "checkIndex", desc := "(I[B)V" } : Jvm.MethodName)) ∈ lw_all := lw_g (lw_at lw_m4 157 rfl) rfl
theorem q998 : (Jvm.Cond.code ({ cls := "java/lang/StringUTF16", name := "checkIndex", desc := "(I[B)V" } : Jvm.MethodName) prog_31_method_91_code (2 : Nat) (Option.none : Option Jvm.ClassFile.FieldType)) ∈ lw_all := lw_g (lw_at lw_m4 158 rfl) rfl
theorem q999 : (Jvm.Cond.methodLink "java/lang/StringUTF16" (414 : Nat) ({ cls := "java/lang/String", name := "checkIndex", desc := "(II)V" } : Jvm.MethodName)) ∈ lw_all := lw_g (lw_at lw_m4 159 rfl) rfl
theorem q1122 : (Jvm.Cond.static ({ cls := "java/lang/StringUTF16", name := "newBytesFor", desc := "(I)[B" } : Jvm.MethodName)) ∈ lw_all := lw_g (lw_at lw_m5 42 rfl) rfl
theorem q1123 : (Jvm.Cond.code ({ cls := "java/lang/StringUTF16", name := "newBytesFor", desc := "(I)[B" } : Jvm.MethodName) prog_31_method_2_code (1 : Nat) (Option.some (Jvm.ClassFile.FieldType.array Jvm.ClassFile.FieldType.byte))) ∈ lw_all := lw_g (lw_at lw_m5 43 rfl) rfl
theorem q1124 : (Jvm.Cond.methodLink "java/lang/StringUTF16" (11 : Nat) ({ cls := "java/lang/StringUTF16", name := "newBytesLength", desc := "(I)I" } : Jvm.MethodName)) ∈ lw_all := lw_g (lw_at lw_m5 44 rfl) rfl
theorem q1125 : (Jvm.Cond.static ({ cls := "java/lang/StringUTF16", name := "newBytesLength", desc := "(I)I" } : Jvm.MethodName)) ∈ lw_all := lw_g (lw_at lw_m5 45 rfl) rfl
theorem q1126 : (Jvm.Cond.code ({ cls := "java/lang/StringUTF16", name := "newBytesLength", desc := "(I)I" } : Jvm.MethodName) prog_31_method_3_code (1 : Nat) (Option.some Jvm.ClassFile.FieldType.int)) ∈ lw_all := lw_g (lw_at lw_m5 46 rfl) rfl
theorem q1127 : (Jvm.Cond.constant "java/lang/StringUTF16" (20 : Nat) (1073741823 : Int32)) ∈ lw_all := lw_g (lw_at lw_m5 47 rfl) rfl
theorem q1199 : (Jvm.Cond.static ({ cls := "java/lang/StringUTF16", name := "inflate", desc := "([BI[BII)V" } : Jvm.MethodName)) ∈ lw_all := lw_g (lw_at lw_m5 119 rfl) rfl
theorem q1200 : (Jvm.Cond.code ({ cls := "java/lang/StringUTF16", name := "inflate", desc := "([BI[BII)V" } : Jvm.MethodName) prog_31_method_86_code (6 : Nat) (Option.none : Option Jvm.ClassFile.FieldType)) ∈ lw_all := lw_g (lw_at lw_m5 120 rfl) rfl
theorem q1201 : (Jvm.Cond.methodLink "java/lang/StringUTF16" (173 : Nat) ({ cls := "java/lang/StringUTF16", name := "checkBoundsOffCount", desc := "(II[B)V" } : Jvm.MethodName)) ∈ lw_all := lw_g (lw_at lw_m5 121 rfl) rfl
theorem q1202 : (Jvm.Cond.static ({ cls := "java/lang/StringUTF16", name := "checkBoundsOffCount", desc := "(II[B)V" } : Jvm.MethodName)) ∈ lw_all := lw_g (lw_at lw_m5 122 rfl) rfl
theorem q1203 : (Jvm.Cond.code ({ cls := "java/lang/StringUTF16", name := "checkBoundsOffCount", desc := "(II[B)V" } : Jvm.MethodName) prog_31_method_94_code (3 : Nat) (Option.none : Option Jvm.ClassFile.FieldType)) ∈ lw_all := lw_g (lw_at lw_m5 123 rfl) rfl
theorem q1204 : (Jvm.Cond.methodLink "java/lang/StringUTF16" (419 : Nat) ({ cls := "java/lang/String", name := "checkBoundsOffCount", desc := "(III)I" } : Jvm.MethodName)) ∈ lw_all := lw_g (lw_at lw_m5 124 rfl) rfl
theorem q1210 : (Jvm.Cond.methodLink "java/lang/StringUTF16" (111 : Nat) ({ cls := "java/lang/StringUTF16", name := "putChar", desc := "([BII)V" } : Jvm.MethodName)) ∈ lw_all := lw_g (lw_at lw_m5 130 rfl) rfl
theorem q1211 : (Jvm.Cond.static ({ cls := "java/lang/StringUTF16", name := "putChar", desc := "([BII)V" } : Jvm.MethodName)) ∈ lw_all := lw_g (lw_at lw_m5 131 rfl) rfl
theorem q1212 : (Jvm.Cond.code ({ cls := "java/lang/StringUTF16", name := "putChar", desc := "([BII)V" } : Jvm.MethodName) prog_31_method_4_code (3 : Nat) (Option.none : Option Jvm.ClassFile.FieldType)) ∈ lw_all := lw_g (lw_at lw_m5 132 rfl) rfl
theorem q1214 : (Jvm.Cond.static ({ cls := "java/lang/StringUTF16", name := "putCharSB", desc := "([BII)V" } : Jvm.MethodName)) ∈ lw_all := lw_g (lw_at lw_m5 134 rfl) rfl
theorem q1215 : (Jvm.Cond.code ({ cls := "java/lang/StringUTF16", name := "putCharSB", desc := "([BII)V" } : Jvm.MethodName) prog_31_method_71_code (3 : Nat) (Option.none : Option Jvm.ClassFile.FieldType)) ∈ lw_all := lw_g (lw_at lw_m5 135 rfl) rfl
theorem q137 : (Jvm.Cond.initialized "jdk/internal/util/Preconditions") ∈ lw_all := lw_g (lw_at lw_m1 17 rfl) rfl
theorem q445 : (Jvm.Cond.static ({ cls := "jdk/internal/util/Preconditions", name := "checkIndex", desc := "(IILjava/util/function/BiFunction;)I" } : Jvm.MethodName)) ∈ lw_all := lw_g (lw_at lw_m2 85 rfl) rfl
theorem q446 : (Jvm.Cond.code ({ cls := "jdk/internal/util/Preconditions", name := "checkIndex", desc := "(IILjava/util/function/BiFunction;)I" } : Jvm.MethodName) prog_47_method_11_code (3 : Nat) (Option.some Jvm.ClassFile.FieldType.int)) ∈ lw_all := lw_g (lw_at lw_m2 86 rfl) rfl
theorem q567 : (Jvm.Cond.laysStatic "jdk/internal/util/Preconditions" "SIOOBE_FORMATTER" "Ljava/util/function/BiFunction;") ∈ lw_tbl := lw_at lw_m2 207 rfl
theorem q952 : (Jvm.Cond.static ({ cls := "jdk/internal/util/Preconditions", name := "checkFromToIndex", desc := "(IIILjava/util/function/BiFunction;)I" } : Jvm.MethodName)) ∈ lw_all := lw_g (lw_at lw_m4 112 rfl) rfl
theorem q953 : (Jvm.Cond.code ({ cls := "jdk/internal/util/Preconditions", name := "checkFromToIndex", desc := "(IIILjava/util/function/BiFunction;)I" } : Jvm.MethodName) prog_47_method_12_code (4 : Nat) (Option.some Jvm.ClassFile.FieldType.int)) ∈ lw_all := lw_g (lw_at lw_m4 113 rfl) rfl
theorem q1208 : (Jvm.Cond.static ({ cls := "jdk/internal/util/Preconditions", name := "checkFromIndexSize", desc := "(IIILjava/util/function/BiFunction;)I" } : Jvm.MethodName)) ∈ lw_all := lw_g (lw_at lw_m5 128 rfl) rfl
theorem q1209 : (Jvm.Cond.code ({ cls := "jdk/internal/util/Preconditions", name := "checkFromIndexSize", desc := "(IIILjava/util/function/BiFunction;)I" } : Jvm.MethodName) prog_47_method_13_code (4 : Nat) (Option.some Jvm.ClassFile.FieldType.int)) ∈ lw_all := lw_g (lw_at lw_m5 129 rfl) rfl
theorem q138 : (Jvm.Cond.initialized "java/lang/Character") ∈ lw_all := lw_g (lw_at lw_m1 18 rfl) rfl
theorem q962 : (Jvm.Cond.static ({ cls := "java/lang/Character", name := "isValidCodePoint", desc := "(I)Z" } : Jvm.MethodName)) ∈ lw_all := lw_g (lw_at lw_m4 122 rfl) rfl
theorem q963 : (Jvm.Cond.code ({ cls := "java/lang/Character", name := "isValidCodePoint", desc := "(I)Z" } : Jvm.MethodName) prog_17_method_11_code (2 : Nat) (Option.some Jvm.ClassFile.FieldType.boolean)) ∈ lw_all := lw_g (lw_at lw_m4 123 rfl) rfl
theorem q965 : (Jvm.Cond.static ({ cls := "java/lang/Character", name := "highSurrogate", desc := "(I)C" } : Jvm.MethodName)) ∈ lw_all := lw_g (lw_at lw_m4 125 rfl) rfl
theorem q966 : (Jvm.Cond.code ({ cls := "java/lang/Character", name := "highSurrogate", desc := "(I)C" } : Jvm.MethodName) prog_17_method_28_code (1 : Nat) (Option.some Jvm.ClassFile.FieldType.char)) ∈ lw_all := lw_g (lw_at lw_m4 126 rfl) rfl
theorem q967 : (Jvm.Cond.constant "java/lang/Character" (110 : Nat) (55232 : Int32)) ∈ lw_all := lw_g (lw_at lw_m4 127 rfl) rfl
theorem q969 : (Jvm.Cond.static ({ cls := "java/lang/Character", name := "lowSurrogate", desc := "(I)C" } : Jvm.MethodName)) ∈ lw_all := lw_g (lw_at lw_m4 129 rfl) rfl
theorem q970 : (Jvm.Cond.code ({ cls := "java/lang/Character", name := "lowSurrogate", desc := "(I)C" } : Jvm.MethodName) prog_17_method_29_code (1 : Nat) (Option.some Jvm.ClassFile.FieldType.char)) ∈ lw_all := lw_g (lw_at lw_m4 130 rfl) rfl
theorem q971 : (Jvm.Cond.constant "java/lang/Character" (76 : Nat) (56320 : Int32)) ∈ lw_all := lw_g (lw_at lw_m4 131 rfl) rfl
theorem q140 : (Jvm.Cond.initialized "java/lang/Number") ∈ lw_all := lw_g (lw_at lw_m1 20 rfl) rfl
theorem q644 : (Jvm.Cond.instanceMethod ({ cls := "java/lang/Number", name := "<init>", desc := "()V" } : Jvm.MethodName)) ∈ lw_all := lw_g (lw_at lw_m3 44 rfl) rfl
theorem q645 : (Jvm.Cond.code ({ cls := "java/lang/Number", name := "<init>", desc := "()V" } : Jvm.MethodName) prog_26_method_1_code (1 : Nat) (Option.none : Option Jvm.ClassFile.FieldType)) ∈ lw_all := lw_g (lw_at lw_m3 45 rfl) rfl
theorem q646 : (Jvm.Cond.methodLink "java/lang/Number" (1 : Nat) ({ cls := "java/lang/Object", name := "<init>", desc := "()V" } : Jvm.MethodName)) ∈ lw_all := lw_g (lw_at lw_m3 46 rfl) rfl
theorem q141 : (Jvm.Cond.initialized "java/lang/Integer") ∈ lw_all := lw_g (lw_at lw_m1 21 rfl) rfl
theorem q404 : (Jvm.Cond.selects "java/lang/Integer" ({ cls := "java/lang/Object", name := "getClass", desc := "()Ljava/lang/Class;" } : Jvm.MethodName) ({ cls := "java/lang/Object", name := "getClass", desc := "()Ljava/lang/Class;" } : Jvm.MethodName)) ∈ lw_all := lw_g (lw_at lw_m2 44 rfl) rfl
theorem q502 : (Jvm.Cond.instanceMethod ({ cls := "java/lang/Integer", name := "intValue", desc := "()I" } : Jvm.MethodName)) ∈ lw_all := lw_g (lw_at lw_m2 142 rfl) rfl
theorem q503 : (Jvm.Cond.selects "java/lang/Integer" ({ cls := "java/lang/Integer", name := "intValue", desc := "()I" } : Jvm.MethodName) ({ cls := "java/lang/Integer", name := "intValue", desc := "()I" } : Jvm.MethodName)) ∈ lw_all := lw_g (lw_at lw_m2 143 rfl) rfl
theorem q504 : (Jvm.Cond.code ({ cls := "java/lang/Integer", name := "intValue", desc := "()I" } : Jvm.MethodName) prog_22_method_27_code (1 : Nat) (Option.some Jvm.ClassFile.FieldType.int)) ∈ lw_all := lw_g (lw_at lw_m2 144 rfl) rfl
theorem q632 : (Jvm.Cond.static ({ cls := "java/lang/Integer", name := "valueOf", desc := "(I)Ljava/lang/Integer;" } : Jvm.MethodName)) ∈ lw_all := lw_g (lw_at lw_m3 32 rfl) rfl
theorem q633 : (Jvm.Cond.code ({ cls := "java/lang/Integer", name := "valueOf", desc := "(I)Ljava/lang/Integer;" } : Jvm.MethodName) prog_22_method_22_code (1 : Nat) (Option.some (Jvm.ClassFile.FieldType.object "java/lang/Integer"))) ∈ lw_all := lw_g (lw_at lw_m3 33 rfl) rfl
theorem q634 : (Jvm.Cond.fieldLink "java/lang/Integer" (191 : Nat) "java/lang/Integer$IntegerCache" "high" "I") ∈ lw_all := lw_g (lw_at lw_m3 34 rfl) rfl
theorem q636 : (Jvm.Cond.fieldLink "java/lang/Integer" (195 : Nat) "java/lang/Integer$IntegerCache" "cache" "[Ljava/lang/Integer;") ∈ lw_all := lw_g (lw_at lw_m3 36 rfl) rfl
theorem q638 : (Jvm.Cond.classLink "java/lang/Integer" (1 : Nat) "java/lang/Integer") ∈ lw_all := lw_g (lw_at lw_m3 38 rfl) rfl
theorem q639 : (Jvm.Cond.instantiable "java/lang/Integer" (1 : Nat)) ∈ lw_all := lw_g (lw_at lw_m3 39 rfl) rfl
theorem q640 : (Jvm.Cond.methodLink "java/lang/Integer" (199 : Nat) ({ cls := "java/lang/Integer", name := "<init>", desc := "(I)V" } : Jvm.MethodName)) ∈ lw_all := lw_g (lw_at lw_m3 40 rfl) rfl
theorem q641 : (Jvm.Cond.instanceMethod ({ cls := "java/lang/Integer", name := "<init>", desc := "(I)V" } : Jvm.MethodName)) ∈ lw_all := lw_g (lw_at lw_m3 41 rfl) rfl
theorem q642 : (Jvm.Cond.code ({ cls := "java/lang/Integer", name := "<init>", desc := "(I)V" } : Jvm.MethodName) prog_22_method_23_code (2 : Nat) (Option.none : Option Jvm.ClassFile.FieldType)) ∈ lw_all := lw_g (lw_at lw_m3 42 rfl) rfl
theorem q643 : (Jvm.Cond.methodLink "java/lang/Integer" (202 : Nat) ({ cls := "java/lang/Number", name := "<init>", desc := "()V" } : Jvm.MethodName)) ∈ lw_all := lw_g (lw_at lw_m3 43 rfl) rfl
theorem q647 : (Jvm.Cond.fieldLink "java/lang/Integer" (205 : Nat) "java/lang/Integer" "value" "I") ∈ lw_all := lw_g (lw_at lw_m3 47 rfl) rfl
theorem q648 : (Jvm.Cond.laysFinal "java/lang/Integer" "java/lang/Integer" "value" "I") ∈ lw_all := lw_g (lw_at lw_m3 48 rfl) rfl
theorem q649 : (Jvm.Cond.soleField "java/lang/Integer" "value") ∈ lw_all := lw_g (lw_at lw_m3 49 rfl) rfl
theorem q650 : (Jvm.Cond.superclass "java/lang/Integer" "java/lang/Number") ∈ lw_all := lw_g (lw_at lw_m3 50 rfl) rfl
theorem q689 : (Jvm.Cond.static ({ cls := "java/lang/Integer", name := "bitCount", desc := "(I)I" } : Jvm.MethodName)) ∈ lw_all := lw_g (lw_at lw_m3 89 rfl) rfl
theorem q690 : (Jvm.Cond.code ({ cls := "java/lang/Integer", name := "bitCount", desc := "(I)I" } : Jvm.MethodName) prog_22_method_49_code (1 : Nat) (Option.some Jvm.ClassFile.FieldType.int)) ∈ lw_all := lw_g (lw_at lw_m3 90 rfl) rfl
theorem q691 : (Jvm.Cond.constant "java/lang/Integer" (265 : Nat) (1431655765 : Int32)) ∈ lw_all := lw_g (lw_at lw_m3 91 rfl) rfl
theorem q692 : (Jvm.Cond.constant "java/lang/Integer" (266 : Nat) (858993459 : Int32)) ∈ lw_all := lw_g (lw_at lw_m3 92 rfl) rfl
theorem q693 : (Jvm.Cond.constant "java/lang/Integer" (267 : Nat) (252645135 : Int32)) ∈ lw_all := lw_g (lw_at lw_m3 93 rfl) rfl
theorem q2246 : (Jvm.Cond.castable "java/lang/Integer" "java/lang/Object") ∈ lw_tbl := lw_at lw_m9 206 rfl
theorem q143 : (Jvm.Cond.initialized "jdk/internal/util/ArraysSupport") ∈ lw_all := lw_g (lw_at lw_m1 23 rfl) rfl
theorem q378 : (Jvm.Cond.static ({ cls := "jdk/internal/util/ArraysSupport", name := "newLength", desc := "(III)I" } : Jvm.MethodName)) ∈ lw_all := lw_g (lw_at lw_m2 18 rfl) rfl
theorem q379 : (Jvm.Cond.code ({ cls := "jdk/internal/util/ArraysSupport", name := "newLength", desc := "(III)I" } : Jvm.MethodName) prog_46_method_27_code (4 : Nat) (Option.some Jvm.ClassFile.FieldType.int)) ∈ lw_all := lw_g (lw_at lw_m2 19 rfl) rfl
theorem q380 : (Jvm.Cond.methodLink "jdk/internal/util/ArraysSupport" (194 : Nat) ({ cls := "java/lang/Math", name := "max", desc := "(II)I" } : Jvm.MethodName)) ∈ lw_all := lw_g (lw_at lw_m2 20 rfl) rfl
theorem q383 : (Jvm.Cond.constant "jdk/internal/util/ArraysSupport" (200 : Nat) (2147483639 : Int32)) ∈ lw_all := lw_g (lw_at lw_m2 23 rfl) rfl
theorem q384 : (Jvm.Cond.methodLink "jdk/internal/util/ArraysSupport" (201 : Nat) ({ cls := "jdk/internal/util/ArraysSupport", name := "hugeLength", desc := "(II)I" } : Jvm.MethodName)) ∈ lw_all := lw_g (lw_at lw_m2 24 rfl) rfl
theorem q385 : (Jvm.Cond.static ({ cls := "jdk/internal/util/ArraysSupport", name := "hugeLength", desc := "(II)I" } : Jvm.MethodName)) ∈ lw_all := lw_g (lw_at lw_m2 25 rfl) rfl
theorem q386 : (Jvm.Cond.code ({ cls := "jdk/internal/util/ArraysSupport", name := "hugeLength", desc := "(II)I" } : Jvm.MethodName) prog_46_method_28_code (3 : Nat) (Option.some Jvm.ClassFile.FieldType.int)) ∈ lw_all := lw_g (lw_at lw_m2 26 rfl) rfl
theorem q144 : (Jvm.Cond.initialized "java/util/Arrays") ∈ lw_all := lw_g (lw_at lw_m1 24 rfl) rfl
theorem q388 : (Jvm.Cond.static ({ cls := "java/util/Arrays", name := "copyOf", desc := "([Ljava/lang/Object;I)[Ljava/lang/Object;" } : Jvm.MethodName)) ∈ lw_all := lw_g (lw_at lw_m2 28 rfl) rfl
theorem q389 : (Jvm.Cond.code ({ cls := "java/util/Arrays", name := "copyOf", desc := "([Ljava/lang/Object;I)[Ljava/lang/Object;" } : Jvm.MethodName) prog_39_method_119_code (2 : Nat) (Option.some (Jvm.ClassFile.FieldType.array (Jvm.ClassFile.FieldType.object "java/lang/Object")))) ∈ lw_all := lw_g (lw_at lw_m2 29 rfl) rfl
theorem q390 : (Jvm.Cond.methodLink "java/util/Arrays" (86 : Nat) ({ cls := "java/lang/Object", name := "getClass", desc := "()Ljava/lang/Class;" } : Jvm.MethodName)) ∈ lw_all := lw_g (lw_at lw_m2 30 rfl) rfl
theorem q409 : (Jvm.Cond.methodLink "java/util/Arrays" (300 : Nat) ({ cls := "java/util/Arrays", name := "copyOf", desc := "([Ljava/lang/Object;ILjava/lang/Class;)[Ljava/lang/Object;" } : Jvm.MethodName)) ∈ lw_all := lw_g (lw_at lw_m2 49 rfl) rfl
theorem q410 : (Jvm.Cond.static ({ cls := "java/util/Arrays", name := "copyOf", desc := "([Ljava/lang/Object;ILjava/lang/Class;)[Ljava/lang/Object;" } : Jvm.MethodName)) ∈ lw_all := lw_g (lw_at lw_m2 50 rfl) rfl
theorem q411 : (Jvm.Cond.code ({ cls := "java/util/Arrays", name := "copyOf", desc := "([Ljava/lang/Object;ILjava/lang/Class;)[Ljava/lang/Object;" } : Jvm.MethodName) prog_39_method_120_code (4 : Nat) (Option.some (Jvm.ClassFile.FieldType.array (Jvm.ClassFile.FieldType.object "java/lang/Object")))) ∈ lw_all := lw_g (lw_at lw_m2 51 rfl) rfl
theorem q412 : (Jvm.Cond.classLink "java/util/Arrays" (110 : Nat) "[Ljava/lang/Object;") ∈ lw_all := lw_g (lw_at lw_m2 52 rfl) rfl
theorem q414 : (Jvm.Cond.classLink "java/util/Arrays" (2 : Nat) "java/lang/Object") ∈ lw_all := lw_g (lw_at lw_m2 54 rfl) rfl
theorem q415 : (Jvm.Cond.methodLink "java/util/Arrays" (304 : Nat) ({ cls := "java/lang/Math", name := "min", desc := "(II)I" } : Jvm.MethodName)) ∈ lw_all := lw_g (lw_at lw_m2 55 rfl) rfl
theorem q418 : (Jvm.Cond.methodLink "java/util/Arrays" (150 : Nat) ({ cls := "java/lang/System", name := "arraycopy", desc := "(Ljava/lang/Object;ILjava/lang/Object;II)V" } : Jvm.MethodName)) ∈ lw_all := lw_g (lw_at lw_m2 58 rfl) rfl
theorem q1174 : (Jvm.Cond.static ({ cls := "java/util/Arrays", name := "copyOf", desc := "([BI)[B" } : Jvm.MethodName)) ∈ lw_all := lw_g (lw_at lw_m5 94 rfl) rfl
theorem q1175 : (Jvm.Cond.code ({ cls := "java/util/Arrays", name := "copyOf", desc := "([BI)[B" } : Jvm.MethodName) prog_39_method_121_code (3 : Nat) (Option.some (Jvm.ClassFile.FieldType.array Jvm.ClassFile.FieldType.byte))) ∈ lw_all := lw_g (lw_at lw_m5 95 rfl) rfl
theorem q1176 : (Jvm.Cond.methodLink "java/util/Arrays" (310 : Nat) ({ cls := "[B", name := "clone", desc := "()Ljava/lang/Object;" } : Jvm.MethodName)) ∈ lw_all := lw_g (lw_at lw_m5 96 rfl) rfl
theorem q1182 : (Jvm.Cond.classLink "java/util/Arrays" (311 : Nat) "[B") ∈ lw_all := lw_g (lw_at lw_m5 102 rfl) rfl
theorem q149 : (Jvm.Cond.initialized "java/lang/AbstractStringBuilder") ∈ lw_all := lw_g (lw_at lw_m1 29 rfl) rfl
theorem q560 : (Jvm.Cond.instanceMethod ({ cls := "java/lang/AbstractStringBuilder", name := "charAt", desc := "(I)C" } : Jvm.MethodName)) ∈ lw_all := lw_g (lw_at lw_m2 200 rfl) rfl
theorem q561 : (Jvm.Cond.code ({ cls := "java/lang/AbstractStringBuilder", name := "charAt", desc := "(I)C" } : Jvm.MethodName) prog_14_method_14_code (5 : Nat) (Option.some Jvm.ClassFile.FieldType.char)) ∈ lw_all := lw_g (lw_at lw_m2 201 rfl) rfl
theorem q562 : (Jvm.Cond.methodLink "java/lang/AbstractStringBuilder" (138 : Nat) ({ cls := "java/lang/Math", name := "min", desc := "(II)I" } : Jvm.MethodName)) ∈ lw_all := lw_g (lw_at lw_m2 202 rfl) rfl
theorem q563 : (Jvm.Cond.methodLink "java/lang/AbstractStringBuilder" (144 : Nat) ({ cls := "java/lang/String", name := "checkIndex", desc := "(II)V" } : Jvm.MethodName)) ∈ lw_all := lw_g (lw_at lw_m2 203 rfl) rfl
theorem q569 : (Jvm.Cond.methodLink "java/lang/AbstractStringBuilder" (148 : Nat) ({ cls := "java/lang/StringUTF16", name := "getChar", desc := "([BI)C" } : Jvm.MethodName)) ∈ lw_all := lw_g (lw_at lw_m2 209 rfl) rfl
theorem q1117 : (Jvm.Cond.instanceMethod ({ cls := "java/lang/AbstractStringBuilder", name := "<init>", desc := "(I)V" } : Jvm.MethodName)) ∈ lw_all := lw_g (lw_at lw_m5 37 rfl) rfl
theorem q1118 : (Jvm.Cond.code ({ cls := "java/lang/AbstractStringBuilder", name := "<init>", desc := "(I)V" } : Jvm.MethodName) prog_14_method_2_code (2 : Nat) (Option.none : Option Jvm.ClassFile.FieldType)) ∈ lw_all := lw_g (lw_at lw_m5 38 rfl) rfl
theorem q1119 : (Jvm.Cond.methodLink "java/lang/AbstractStringBuilder" (3 : Nat) ({ cls := "java/lang/Object", name := "<init>", desc := "()V" } : Jvm.MethodName)) ∈ lw_all := lw_g (lw_at lw_m5 39 rfl) rfl
theorem q1120 : (Jvm.Cond.fieldLink "java/lang/AbstractStringBuilder" (18 : Nat) "java/lang/String" "COMPACT_STRINGS" "Z") ∈ lw_all := lw_g (lw_at lw_m5 40 rfl) rfl
theorem q1121 : (Jvm.Cond.methodLink "java/lang/AbstractStringBuilder" (26 : Nat) ({ cls := "java/lang/StringUTF16", name := "newBytesFor", desc := "(I)[B" } : Jvm.MethodName)) ∈ lw_all := lw_g (lw_at lw_m5 41 rfl) rfl
theorem q1128 : (Jvm.Cond.fieldLink "java/lang/AbstractStringBuilder" (15 : Nat) "java/lang/AbstractStringBuilder" "value" "[B") ∈ lw_all := lw_g (lw_at lw_m5 48 rfl) rfl
theorem q1129 : (Jvm.Cond.fieldLink "java/lang/AbstractStringBuilder" (22 : Nat) "java/lang/AbstractStringBuilder" "coder" "B") ∈ lw_all := lw_g (lw_at lw_m5 49 rfl) rfl
theorem q1130 : (Jvm.Cond.fieldLink "java/lang/AbstractStringBuilder" (79 : Nat) "java/lang/AbstractStringBuilder" "count" "I") ∈ lw_all := lw_g (lw_at lw_m5 50 rfl) rfl
theorem q1132 : (Jvm.Cond.soleField "java/lang/AbstractStringBuilder" "value") ∈ lw_all := lw_g (lw_at lw_m5 52 rfl) rfl
theorem q1134 : (Jvm.Cond.soleField "java/lang/AbstractStringBuilder" "coder") ∈ lw_all := lw_g (lw_at lw_m5 54 rfl) rfl
theorem q1136 : (Jvm.Cond.soleField "java/lang/AbstractStringBuilder" "maybeLatin1") ∈ lw_all := lw_g (lw_at lw_m5 56 rfl) rfl
theorem q1138 : (Jvm.Cond.soleField "java/lang/AbstractStringBuilder" "count") ∈ lw_all := lw_g (lw_at lw_m5 58 rfl) rfl
theorem q1161 : (Jvm.Cond.instanceMethod ({ cls := "java/lang/AbstractStringBuilder", name := "append", desc := "(C)Ljava/lang/AbstractStringBuilder;" } : Jvm.MethodName)) ∈ lw_all := lw_g (lw_at lw_m5 81 rfl) rfl
theorem q1162 : (Jvm.Cond.code ({ cls := "java/lang/AbstractStringBuilder", name := "append", desc := "(C)Ljava/lang/AbstractStringBuilder;" } : Jvm.MethodName) prog_14_method_31_code (2 : Nat) (Option.some (Jvm.ClassFile.FieldType.object "java/lang/AbstractStringBuilder"))) ∈ lw_all := lw_g (lw_at lw_m5 82 rfl) rfl
theorem q1163 : (Jvm.Cond.methodLink "java/lang/AbstractStringBuilder" (100 : Nat) ({ cls := "java/lang/AbstractStringBuilder", name := "ensureCapacityInternal", desc := "(I)V" } : Jvm.MethodName)) ∈ lw_all := lw_g (lw_at lw_m5 83 rfl) rfl
theorem q1164 : (Jvm.Cond.privateMethod ({ cls := "java/lang/AbstractStringBuilder", name := "ensureCapacityInternal", desc := "(I)V" } : Jvm.MethodName)) ∈ lw_tbl := lw_at lw_m5 84 rfl
theorem q1165 : (Jvm.Cond.instanceMethod ({ cls := "java/lang/AbstractStringBuilder", name := "ensureCapacityInternal", desc := "(I)V" } : Jvm.MethodName)) ∈ lw_all := lw_g (lw_at lw_m5 85 rfl) rfl
theorem q1166 : (Jvm.Cond.code ({ cls := "java/lang/AbstractStringBuilder", name := "ensureCapacityInternal", desc := "(I)V" } : Jvm.MethodName) prog_14_method_9_code (3 : Nat) (Option.none : Option Jvm.ClassFile.FieldType)) ∈ lw_all := lw_g (lw_at lw_m5 86 rfl) rfl
theorem q1167 : (Jvm.Cond.methodLink "java/lang/AbstractStringBuilder" (104 : Nat) ({ cls := "java/lang/AbstractStringBuilder", name := "newCapacity", desc := "(I)I" } : Jvm.MethodName)) ∈ lw_all := lw_g (lw_at lw_m5 87 rfl) rfl
theorem q1168 : (Jvm.Cond.privateMethod ({ cls := "java/lang/AbstractStringBuilder", name := "newCapacity", desc := "(I)I" } : Jvm.MethodName)) ∈ lw_tbl := lw_at lw_m5 88 rfl
theorem q1169 : (Jvm.Cond.instanceMethod ({ cls := "java/lang/AbstractStringBuilder", name := "newCapacity", desc := "(I)I" } : Jvm.MethodName)) ∈ lw_all := lw_g (lw_at lw_m5 89 rfl) rfl
theorem q1170 : (Jvm.Cond.code ({ cls := "java/lang/AbstractStringBuilder", name := "newCapacity", desc := "(I)I" } : Jvm.MethodName) prog_14_method_10_code (6 : Nat) (Option.some Jvm.ClassFile.FieldType.int)) ∈ lw_all := lw_g (lw_at lw_m5 90 rfl) rfl
theorem q1171 : (Jvm.Cond.methodLink "java/lang/AbstractStringBuilder" (114 : Nat) ({ cls := "jdk/internal/util/ArraysSupport", name := "newLength", desc := "(III)I" } : Jvm.MethodName)) ∈ lw_all := lw_g (lw_at lw_m5 91 rfl) rfl
theorem q1172 : (Jvm.Cond.constant "java/lang/AbstractStringBuilder" (39 : Nat) (2147483647 : Int32)) ∈ lw_all := lw_g (lw_at lw_m5 92 rfl) rfl
theorem q1173 : (Jvm.Cond.methodLink "java/lang/AbstractStringBuilder" (108 : Nat) ({ cls := "java/util/Arrays", name := "copyOf", desc := "([BI)[B" } : Jvm.MethodName)) ∈ lw_all := lw_g (lw_at lw_m5 93 rfl) rfl
theorem q1183 : (Jvm.Cond.methodLink "java/lang/AbstractStringBuilder" (83 : Nat) ({ cls := "java/lang/AbstractStringBuilder", name := "isLatin1", desc := "()Z" } : Jvm.MethodName)) ∈ lw_all := lw_g (lw_at lw_m5 103 rfl) rfl
theorem q1184 : (Jvm.Cond.instanceMethod ({ cls := "java/lang/AbstractStringBuilder", name := "isLatin1", desc := "()Z" } : Jvm.MethodName)) ∈ lw_all := lw_g (lw_at lw_m5 104 rfl) rfl
theorem q1185 : (Jvm.Cond.sameMethod "java/lang/AbstractStringBuilder" "java/lang/AbstractStringBuilder" "isLatin1" "()Z") ∈ lw_all := lw_g (lw_at lw_m5 105 rfl) rfl
theorem q1187 : (Jvm.Cond.code ({ cls := "java/lang/AbstractStringBuilder", name := "isLatin1", desc := "()Z" } : Jvm.MethodName) prog_14_method_68_code (1 : Nat) (Option.some Jvm.ClassFile.FieldType.boolean)) ∈ lw_all := lw_g (lw_at lw_m5 107 rfl) rfl
theorem q1188 : (Jvm.Cond.methodLink "java/lang/AbstractStringBuilder" (191 : Nat) ({ cls := "java/lang/StringLatin1", name := "canEncode", desc := "(C)Z" } : Jvm.MethodName)) ∈ lw_all := lw_g (lw_at lw_m5 108 rfl) rfl
theorem q1191 : (Jvm.Cond.methodLink "java/lang/AbstractStringBuilder" (195 : Nat) ({ cls := "java/lang/AbstractStringBuilder", name := "inflate", desc := "()V" } : Jvm.MethodName)) ∈ lw_all := lw_g (lw_at lw_m5 111 rfl) rfl
theorem q1192 : (Jvm.Cond.privateMethod ({ cls := "java/lang/AbstractStringBuilder", name := "inflate", desc := "()V" } : Jvm.MethodName)) ∈ lw_tbl := lw_at lw_m5 112 rfl
theorem q1193 : (Jvm.Cond.instanceMethod ({ cls := "java/lang/AbstractStringBuilder", name := "inflate", desc := "()V" } : Jvm.MethodName)) ∈ lw_all := lw_g (lw_at lw_m5 113 rfl) rfl
theorem q1194 : (Jvm.Cond.code ({ cls := "java/lang/AbstractStringBuilder", name := "inflate", desc := "()V" } : Jvm.MethodName) prog_14_method_11_code (2 : Nat) (Option.none : Option Jvm.ClassFile.FieldType)) ∈ lw_all := lw_g (lw_at lw_m5 114 rfl) rfl
theorem q1195 : (Jvm.Cond.methodLink "java/lang/AbstractStringBuilder" (125 : Nat) ({ cls := "java/lang/StringLatin1", name := "inflate", desc := "([BI[BII)V" } : Jvm.MethodName)) ∈ lw_all := lw_g (lw_at lw_m5 115 rfl) rfl
theorem q1213 : (Jvm.Cond.methodLink "java/lang/AbstractStringBuilder" (197 : Nat) ({ cls := "java/lang/StringUTF16", name := "putCharSB", desc := "([BII)V" } : Jvm.MethodName)) ∈ lw_all := lw_g (lw_at lw_m5 133 rfl) rfl
theorem q2230 : (Jvm.Cond.sameMethod "java/lang/AbstractStringBuilder" "java/lang/AbstractStringBuilder" "charAt" "(I)C") ∈ lw_all := lw_g (lw_at lw_m9 190 rfl) rfl
theorem q2232 : (Jvm.Cond.sameMethod "java/lang/AbstractStringBuilder" "java/lang/AbstractStringBuilder" "append" "(C)Ljava/lang/AbstractStringBuilder;") ∈ lw_all := lw_g (lw_at lw_m9 192 rfl) rfl
theorem q2233 : (Jvm.Cond.sameMethod "java/lang/AbstractStringBuilder" "java/lang/AbstractStringBuilder" "ensureCapacityInternal" "(I)V") ∈ lw_all := lw_g (lw_at lw_m9 193 rfl) rfl
theorem q2234 : (Jvm.Cond.sameMethod "java/lang/AbstractStringBuilder" "java/lang/AbstractStringBuilder" "newCapacity" "(I)I") ∈ lw_all := lw_g (lw_at lw_m9 194 rfl) rfl
theorem q2235 : (Jvm.Cond.sameMethod "java/lang/AbstractStringBuilder" "java/lang/AbstractStringBuilder" "inflate" "()V") ∈ lw_all := lw_g (lw_at lw_m9 195 rfl) rfl
theorem q150 : (Jvm.Cond.initialized "java/lang/StringBuilder") ∈ lw_all := lw_g (lw_at lw_m1 30 rfl) rfl
theorem q405 : (Jvm.Cond.selects "java/lang/StringBuilder" ({ cls := "java/lang/Object", name := "getClass", desc := "()Ljava/lang/Class;" } : Jvm.MethodName) ({ cls := "java/lang/Object", name := "getClass", desc := "()Ljava/lang/Class;" } : Jvm.MethodName)) ∈ lw_all := lw_g (lw_at lw_m2 45 rfl) rfl
theorem q555 : (Jvm.Cond.instanceMethod ({ cls := "java/lang/StringBuilder", name := "charAt", desc := "(I)C" } : Jvm.MethodName)) ∈ lw_all := lw_g (lw_at lw_m2 195 rfl) rfl
theorem q556 : (Jvm.Cond.selects "java/lang/StringBuilder" ({ cls := "java/lang/StringBuilder", name := "charAt", desc := "(I)C" } : Jvm.MethodName) ({ cls := "java/lang/StringBuilder", name := "charAt", desc := "(I)C" } : Jvm.MethodName)) ∈ lw_all := lw_g (lw_at lw_m2 196 rfl) rfl
theorem q557 : (Jvm.Cond.code ({ cls := "java/lang/StringBuilder", name := "charAt", desc := "(I)C" } : Jvm.MethodName) prog_29_method_88_code (2 : Nat) (Option.some Jvm.ClassFile.FieldType.char)) ∈ lw_all := lw_g (lw_at lw_m2 197 rfl) rfl
theorem q558 : (Jvm.Cond.methodLink "java/lang/StringBuilder" (329 : Nat) ({ cls := "java/lang/AbstractStringBuilder", name := "charAt", desc := "(I)C" } : Jvm.MethodName)) ∈ lw_all := lw_g (lw_at lw_m2 198 rfl) rfl
theorem q559 : (Jvm.Cond.superclass "java/lang/StringBuilder" "java/lang/AbstractStringBuilder") ∈ lw_all := lw_g (lw_at lw_m2 199 rfl) rfl
theorem q1112 : (Jvm.Cond.instantiable "java/lang/StringBuilder" (4 : Nat)) ∈ lw_all := lw_g (lw_at lw_m5 32 rfl) rfl
theorem q1114 : (Jvm.Cond.instanceMethod ({ cls := "java/lang/StringBuilder", name := "<init>", desc := "()V" } : Jvm.MethodName)) ∈ lw_all := lw_g (lw_at lw_m5 34 rfl) rfl
theorem q1115 : (Jvm.Cond.code ({ cls := "java/lang/StringBuilder", name := "<init>", desc := "()V" } : Jvm.MethodName) prog_29_method_1_code (1 : Nat) (Option.none : Option Jvm.ClassFile.FieldType)) ∈ lw_all := lw_g (lw_at lw_m5 35 rfl) rfl
theorem q1116 : (Jvm.Cond.methodLink "java/lang/StringBuilder" (1 : Nat) ({ cls := "java/lang/AbstractStringBuilder", name := "<init>", desc := "(I)V" } : Jvm.MethodName)) ∈ lw_all := lw_g (lw_at lw_m5 36 rfl) rfl
theorem q1131 : (Jvm.Cond.lays "java/lang/StringBuilder" "java/lang/AbstractStringBuilder" "value" "[B") ∈ lw_all := lw_g (lw_at lw_m5 51 rfl) rfl
theorem q1133 : (Jvm.Cond.lays "java/lang/StringBuilder" "java/lang/AbstractStringBuilder" "coder" "B") ∈ lw_all := lw_g (lw_at lw_m5 53 rfl) rfl
theorem q1135 : (Jvm.Cond.lays "java/lang/StringBuilder" "java/lang/AbstractStringBuilder" "maybeLatin1" "Z") ∈ lw_all := lw_g (lw_at lw_m5 55 rfl) rfl
theorem q1137 : (Jvm.Cond.lays "java/lang/StringBuilder" "java/lang/AbstractStringBuilder" "count" "I") ∈ lw_all := lw_g (lw_at lw_m5 57 rfl) rfl
theorem q1157 : (Jvm.Cond.instanceMethod ({ cls := "java/lang/StringBuilder", name := "append", desc := "(C)Ljava/lang/StringBuilder;" } : Jvm.MethodName)) ∈ lw_all := lw_g (lw_at lw_m5 77 rfl) rfl
theorem q1158 : (Jvm.Cond.selects "java/lang/StringBuilder" ({ cls := "java/lang/StringBuilder", name := "append", desc := "(C)Ljava/lang/StringBuilder;" } : Jvm.MethodName) ({ cls := "java/lang/StringBuilder", name := "append", desc := "(C)Ljava/lang/StringBuilder;" } : Jvm.MethodName)) ∈ lw_all := lw_g (lw_at lw_m5 78 rfl) rfl
theorem q1159 : (Jvm.Cond.code ({ cls := "java/lang/StringBuilder", name := "append", desc := "(C)Ljava/lang/StringBuilder;" } : Jvm.MethodName) prog_29_method_14_code (2 : Nat) (Option.some (Jvm.ClassFile.FieldType.object "java/lang/StringBuilder"))) ∈ lw_all := lw_g (lw_at lw_m5 79 rfl) rfl
theorem q1160 : (Jvm.Cond.methodLink "java/lang/StringBuilder" (50 : Nat) ({ cls := "java/lang/AbstractStringBuilder", name := "append", desc := "(C)Ljava/lang/AbstractStringBuilder;" } : Jvm.MethodName)) ∈ lw_all := lw_g (lw_at lw_m5 80 rfl) rfl
theorem q1186 : (Jvm.Cond.selects "java/lang/StringBuilder" ({ cls := "java/lang/AbstractStringBuilder", name := "isLatin1", desc := "()Z" } : Jvm.MethodName) ({ cls := "java/lang/AbstractStringBuilder", name := "isLatin1", desc := "()Z" } : Jvm.MethodName)) ∈ lw_all := lw_g (lw_at lw_m5 106 rfl) rfl
theorem q2250 : (Jvm.Cond.castable "java/lang/StringBuilder" "java/lang/Object") ∈ lw_tbl := lw_at lw_m9 210 rfl
theorem q151 : (Jvm.Cond.initialized "java/util/Objects") ∈ lw_all := lw_g (lw_at lw_m1 31 rfl) rfl
theorem q442 : (Jvm.Cond.static ({ cls := "java/util/Objects", name := "checkIndex", desc := "(II)I" } : Jvm.MethodName)) ∈ lw_all := lw_g (lw_at lw_m2 82 rfl) rfl
theorem q443 : (Jvm.Cond.code ({ cls := "java/util/Objects", name := "checkIndex", desc := "(II)I" } : Jvm.MethodName) prog_43_method_17_code (2 : Nat) (Option.some Jvm.ClassFile.FieldType.int)) ∈ lw_all := lw_g (lw_at lw_m2 83 rfl) rfl
theorem q444 : (Jvm.Cond.methodLink "java/util/Objects" (105 : Nat) ({ cls := "jdk/internal/util/Preconditions", name := "checkIndex", desc := "(IILjava/util/function/BiFunction;)I" } : Jvm.MethodName)) ∈ lw_all := lw_g (lw_at lw_m2 84 rfl) rfl
theorem q153 : (Jvm.Cond.initialized "java/util/NoSuchElementException") ∈ lw_all := lw_g (lw_at lw_m1 33 rfl) rfl
theorem q407 : (Jvm.Cond.selects "java/util/NoSuchElementException" ({ cls := "java/lang/Object", name := "getClass", desc := "()Ljava/lang/Class;" } : Jvm.MethodName) ({ cls := "java/lang/Object", name := "getClass", desc := "()Ljava/lang/Class;" } : Jvm.MethodName)) ∈ lw_all := lw_g (lw_at lw_m2 47 rfl) rfl
theorem q776 : (Jvm.Cond.selects "java/util/NoSuchElementException" ({ cls := "java/lang/Throwable", name := "fillInStackTrace", desc := "()Ljava/lang/Throwable;" } : Jvm.MethodName) ({ cls := "java/lang/Throwable", name := "fillInStackTrace", desc := "()Ljava/lang/Throwable;" } : Jvm.MethodName)) ∈ lw_all := lw_g (lw_at lw_m3 176 rfl) rfl
theorem q1272 : (Jvm.Cond.instantiable "java/util/NoSuchElementException" (6 : Nat)) ∈ lw_all := lw_g (lw_at lw_m5 192 rfl) rfl
theorem q1273 : (Jvm.Cond.castable "java/util/NoSuchElementException" "java/util/NoSuchElementException") ∈ lw_tbl := lw_at lw_m5 193 rfl
theorem q1274 : (Jvm.Cond.selects "java/util/NoSuchElementException" ({ cls := "java/lang/Throwable", name := "fillInStackTrace", desc := "(I)Ljava/lang/Throwable;" } : Jvm.MethodName) ({ cls := "java/lang/Throwable", name := "fillInStackTrace", desc := "(I)Ljava/lang/Throwable;" } : Jvm.MethodName)) ∈ lw_all := lw_g (lw_at lw_m5 194 rfl) rfl
theorem q1275 : (Jvm.Cond.lays "java/util/NoSuchElementException" "java/lang/Throwable" "cause" "Ljava/lang/Throwable;") ∈ lw_all := lw_g (lw_at lw_m5 195 rfl) rfl
theorem q1276 : (Jvm.Cond.lays "java/util/NoSuchElementException" "java/lang/Throwable" "stackTrace" "[Ljava/lang/StackTraceElement;") ∈ lw_all := lw_g (lw_at lw_m5 196 rfl) rfl
theorem q1277 : (Jvm.Cond.lays "java/util/NoSuchElementException" "java/lang/Throwable" "suppressedExceptions" "Ljava/util/List;") ∈ lw_all := lw_g (lw_at lw_m5 197 rfl) rfl
theorem q1278 : (Jvm.Cond.lays "java/util/NoSuchElementException" "java/lang/Throwable" "detailMessage" "Ljava/lang/String;") ∈ lw_all := lw_g (lw_at lw_m5 198 rfl) rfl
theorem q1279 : (Jvm.Cond.lays "java/util/NoSuchElementException" "java/lang/Throwable" "backtrace" "Ljava/lang/Object;") ∈ lw_all := lw_g (lw_at lw_m5 199 rfl) rfl
theorem q1281 : (Jvm.Cond.instanceMethod ({ cls := "java/util/NoSuchElementException", name := "<init>", desc := "()V" } : Jvm.MethodName)) ∈ lw_all := lw_g (lw_at lw_m5 201 rfl) rfl
theorem q1282 : (Jvm.Cond.code ({ cls := "java/util/NoSuchElementException", name := "<init>", desc := "()V" } : Jvm.MethodName) prog_42_method_1_code (1 : Nat) (Option.none : Option Jvm.ClassFile.FieldType)) ∈ lw_all := lw_g (lw_at lw_m5 202 rfl) rfl
theorem q1283 : (Jvm.Cond.methodLink "java/util/NoSuchElementException" (1 : Nat) ({ cls := "java/lang/RuntimeException", name := "<init>", desc := "()V" } : Jvm.MethodName)) ∈ lw_all := lw_g (lw_at lw_m5 203 rfl) rfl
theorem q1284 : (Jvm.Cond.lays "java/util/NoSuchElementException" "java/lang/Throwable" "depth" "I") ∈ lw_all := lw_g (lw_at lw_m5 204 rfl) rfl
theorem q1285 : (Jvm.Cond.superclass "java/util/NoSuchElementException" "java/lang/RuntimeException") ∈ lw_all := lw_g (lw_at lw_m5 205 rfl) rfl
theorem q2252 : (Jvm.Cond.castable "java/util/NoSuchElementException" "java/lang/Object") ∈ lw_tbl := lw_at lw_m9 212 rfl
theorem q160 : (Jvm.Cond.instanceMethod ({ cls := "java/lang/Object", name := "<init>", desc := "()V" } : Jvm.MethodName)) ∈ lw_all := lw_g (lw_at lw_m1 40 rfl) rfl
theorem q161 : (Jvm.Cond.code ({ cls := "java/lang/Object", name := "<init>", desc := "()V" } : Jvm.MethodName) object_method_1_code (1 : Nat) (Option.none : Option Jvm.ClassFile.FieldType)) ∈ lw_all := lw_g (lw_at lw_m1 41 rfl) rfl
theorem q391 : (Jvm.Cond.instanceMethod ({ cls := "java/lang/Object", name := "getClass", desc := "()Ljava/lang/Class;" } : Jvm.MethodName)) ∈ lw_all := lw_g (lw_at lw_m2 31 rfl) rfl
theorem q392 : (Jvm.Cond.sameMethod "java/lang/Object" "java/lang/Object" "getClass" "()Ljava/lang/Class;") ∈ lw_all := lw_g (lw_at lw_m2 32 rfl) rfl
theorem q408 : (Jvm.Cond.native ({ cls := "java/lang/Object", name := "getClass", desc := "()Ljava/lang/Class;" } : Jvm.MethodName)) ∈ lw_all := lw_g (lw_at lw_m2 48 rfl) rfl
theorem q718 : (Jvm.Cond.declares ({ cls := "java/lang/Object", name := "getClass", desc := "()Ljava/lang/Class;" } : Jvm.MethodName)) ∈ lw_tbl := lw_at lw_m3 118 rfl
theorem q720 : (Jvm.Cond.publicMethod ({ cls := "java/lang/Object", name := "getClass", desc := "()Ljava/lang/Class;" } : Jvm.MethodName)) ∈ lw_tbl := lw_at lw_m3 120 rfl
theorem q1178 : (Jvm.Cond.native ({ cls := "java/lang/Object", name := "clone", desc := "()Ljava/lang/Object;" } : Jvm.MethodName)) ∈ lw_all := lw_g (lw_at lw_m5 98 rfl) rfl
theorem q1179 : (Jvm.Cond.instanceMethod ({ cls := "java/lang/Object", name := "clone", desc := "()Ljava/lang/Object;" } : Jvm.MethodName)) ∈ lw_all := lw_g (lw_at lw_m5 99 rfl) rfl
theorem q2236 : (Jvm.Cond.initialized "java/lang/Object") ∈ lw_all := lw_g (lw_at lw_m9 196 rfl) rfl
theorem clX1 : xCls 0 RX1 TX1 15 tyX1 := ⟨rfl, in_X1, tyX1_ok, nmX1⟩
theorem dfX1 : ∀ j, j < 15 → defaultValue (tyX1 j) = vp_V [.null, .null, .null, .null, .null, .null, .int 0, .int 0, .null, .null, .null, .null, .null, .null, .int 0] j := by decide
theorem clX2 : xCls 1 RX2 TX2 8 tyX2 := ⟨rfl, in_X2, tyX2_ok, nmX2⟩
theorem dfX2 : ∀ j, j < 8 → defaultValue (tyX2 j) = vp_V [.null, .null, .int 0, .int 0, .int 0, .int 0, .null, .null] j := by decide
theorem clX3 : xCls 2 RX3 TX3 6 tyX3 := ⟨rfl, in_X3, tyX3_ok, nmX3⟩
theorem dfX3 : ∀ j, j < 6 → defaultValue (tyX3 j) = vp_V [.null, .null, .null, .null, .int 0, .null] j := by decide
theorem clX5 : xCls 4 RX5 TX5 15 tyX5 := ⟨rfl, in_X5, tyX5_ok, nmX5⟩
theorem dfX5 : ∀ j, j < 15 → defaultValue (tyX5 j) = vp_V [.int 0, .null, .null, .null, .null, .null, .null, .int 0, .int 0, .int 0, .int 0, .int 0, .int 0, .int 0, .null] j := by decide
theorem clX6 : xCls 5 RX6 TX6 7 tyX6 := ⟨rfl, in_X6, tyX6_ok, nmX6⟩
theorem dfX6 : ∀ j, j < 7 → defaultValue (tyX6 j) = vp_V [.null, .null, .null, .null, .null, .int 0, .int 0] j := by decide
theorem clX7 : xCls 6 RX7 TX7 2 tyX7 := ⟨rfl, in_X7, tyX7_ok, nmX7⟩
theorem dfX7 : ∀ j, j < 2 → defaultValue (tyX7 j) = vp_V [.null, .null] j := by decide
theorem clX8 : xCls 7 RX8 TX8 1 tyX8 := ⟨rfl, in_X8, tyX8_ok, nmX8⟩
theorem dfX8 : ∀ j, j < 1 → defaultValue (tyX8 j) = vp_V [.int 0] j := by decide
theorem clX9 : xCls 8 RX9 TX9 1 tyX9 := ⟨rfl, in_X9, tyX9_ok, nmX9⟩
theorem dfX9 : ∀ j, j < 1 → defaultValue (tyX9 j) = vp_V [.int 0] j := by decide
theorem clX10 : xCls 9 RX10 TX10 1 tyX10 := ⟨rfl, in_X10, tyX10_ok, nmX10⟩
theorem dfX10 : ∀ j, j < 1 → defaultValue (tyX10 j) = vp_V [.null] j := by decide
theorem clJ2 : xCls 10 RJ2 TJ2 3 tyJ2 := ⟨rfl, in_J2, tyJ2_ok, nmJ2⟩
theorem dfJ2 : ∀ j, j < 3 → defaultValue (tyJ2 j) = vp_V [.int 0, .null, .int 0] j := by decide
theorem clJ14 : xCls 11 RJ14 TJ14 1 tyJ14 := ⟨rfl, in_J14, tyJ14_ok, nmJ14⟩
theorem dfJ14 : ∀ j, j < 1 → defaultValue (tyJ14 j) = vp_V [.int 0] j := by decide
theorem clJ18 : xCls 12 RJ18 TJ18 4 tyJ18 := ⟨rfl, in_J18, tyJ18_ok, nmJ18⟩
theorem dfJ18 : ∀ j, j < 4 → defaultValue (tyJ18 j) = vp_V [.null, .int 0, .int 0, .int 0] j := by decide
theorem clJ20 : xCls 13 RJ20 TJ20 6 tyJ20 := ⟨rfl, in_J20, tyJ20_ok, nmJ20⟩
theorem dfJ20 : ∀ j, j < 6 → defaultValue (tyJ20 j) = vp_V [.null, .null, .null, .null, .null, .int 0] j := by decide
theorem clJ6 : xCls 14 RJ6 TJ6 6 tyJ6 := ⟨rfl, in_J6, tyJ6_ok, nmJ6⟩
theorem dfJ6 : ∀ j, j < 6 → defaultValue (tyJ6 j) = vp_V [.null, .null, .null, .null, .null, .int 0] j := by decide
theorem ca_Form : ∀ ci ∈ ([6, 7, 8, 9] : List Nat), ∃ q : vw_C, xClS[ci]? = some q ∧ (q.1 = "MouldVotes$Form" ∨ Cond.castable q.1 "MouldVotes$Form" ∈ lw_tbl) := by
  intro ci h
  simp only [List.mem_cons, List.not_mem_nil, or_false] at h
  rcases h with rfl | rfl | rfl | rfl
  · exact ⟨_, rfl, Or.inr q521⟩
  · exact ⟨_, rfl, Or.inr q540⟩
  · exact ⟨_, rfl, Or.inr q546⟩
  · exact ⟨_, rfl, Or.inr q532⟩
theorem ca_Integer : ∀ ci ∈ ([11] : List Nat), ∃ q : vw_C, xClS[ci]? = some q ∧ (q.1 = "java/lang/Integer" ∨ Cond.castable q.1 "java/lang/Integer" ∈ lw_tbl) := by
  intro ci h
  simp only [List.mem_cons, List.not_mem_nil, or_false] at h
  rcases h with rfl
  · exact ⟨_, rfl, Or.inl rfl⟩
theorem ca_Growth : ∀ ci ∈ ([2] : List Nat), ∃ q : vw_C, xClS[ci]? = some q ∧ (q.1 = "MouldVotes$Growth" ∨ Cond.castable q.1 "MouldVotes$Growth" ∈ lw_tbl) := by
  intro ci h
  simp only [List.mem_cons, List.not_mem_nil, or_false] at h
  rcases h with rfl
  · exact ⟨_, rfl, Or.inl rfl⟩
theorem obj1 : Cond.instanceMethod Lib.objectInit ∈ lw_all := q160
theorem obj2 : Cond.code Lib.objectInit ⟨#[0xb1]⟩ 1 none ∈ lw_all := q161
theorem ac1 : Cond.native arraycopyName ∈ lw_all := q420
theorem ac2 : Cond.static arraycopyName ∈ lw_all := q419
theorem ac3 : Cond.initialized "java/lang/System" ∈ lw_all := q145
theorem gc1 : Cond.selects "[Ljava/lang/Object;" ⟨"java/lang/Object", "getClass", "()Ljava/lang/Class;"⟩ ⟨"java/lang/Object", "getClass", "()Ljava/lang/Class;"⟩ ∈ lw_all := q2255
theorem gc2 : Cond.instanceMethod ⟨"java/lang/Object", "getClass", "()Ljava/lang/Class;"⟩ ∈ lw_all := q391
theorem gc3 : Cond.native ⟨"java/lang/Object", "getClass", "()Ljava/lang/Class;"⟩ ∈ lw_all := q408
theorem fX1_13 : xFld RX1 13 0 0 (.array .int) true := ⟨RX1, TX1, 15, tyX1, "MouldVotes", clX1, Nat.le_of_ble_eq_true rfl, Or.inl q271, Or.inl rfl, rfl, rfl, fun _ => rfl⟩
theorem fX1_22 : xFld RX1 22 0 1 (.object "MouldVotes$Roll") false := ⟨RX1, TX1, 15, tyX1, "MouldVotes", clX1, Nat.le_of_ble_eq_true rfl, Or.inl q274, Or.inl rfl, rfl, rfl, fun q => by cases q⟩
theorem rX1_22 : xFldR RX1 22 0 1 (.object "MouldVotes$Roll") false := ⟨RX1, TX1, 15, tyX1, "MouldVotes", clX1, Nat.le_of_ble_eq_true rfl, Or.inl q274, Or.inl rfl, rfl, rfl⟩
theorem fX1_31 : xFld RX1 31 0 2 (.object "MouldVotes$Growth") true := ⟨RX1, TX1, 15, tyX1, "MouldVotes", clX1, Nat.le_of_ble_eq_true rfl, Or.inl q275, Or.inl rfl, rfl, rfl, fun _ => rfl⟩
theorem fX1_35 : xFld RX1 35 0 3 (.object "MouldVotes$Growth") true := ⟨RX1, TX1, 15, tyX1, "MouldVotes", clX1, Nat.le_of_ble_eq_true rfl, Or.inl q277, Or.inl rfl, rfl, rfl, fun _ => rfl⟩
theorem rX1_35 : xFldR RX1 35 0 3 (.object "MouldVotes$Growth") true := ⟨RX1, TX1, 15, tyX1, "MouldVotes", clX1, Nat.le_of_ble_eq_true rfl, Or.inl q277, Or.inl rfl, rfl, rfl⟩
theorem fX1_38 : xFld RX1 38 0 4 (.object "MouldVotes$Growth") false := ⟨RX1, TX1, 15, tyX1, "MouldVotes", clX1, Nat.le_of_ble_eq_true rfl, Or.inl q278, Or.inl rfl, rfl, rfl, fun q => by cases q⟩
theorem rX1_38 : xFldR RX1 38 0 4 (.object "MouldVotes$Growth") false := ⟨RX1, TX1, 15, tyX1, "MouldVotes", clX1, Nat.le_of_ble_eq_true rfl, Or.inl q278, Or.inl rfl, rfl, rfl⟩
theorem fX1_41 : xFld RX1 41 0 5 (.array .byte) true := ⟨RX1, TX1, 15, tyX1, "MouldVotes", clX1, Nat.le_of_ble_eq_true rfl, Or.inl q280, Or.inl rfl, rfl, rfl, fun _ => rfl⟩
theorem rX1_41 : xFldR RX1 41 0 5 (.array .byte) true := ⟨RX1, TX1, 15, tyX1, "MouldVotes", clX1, Nat.le_of_ble_eq_true rfl, Or.inl q280, Or.inl rfl, rfl, rfl⟩
theorem fX1_45 : xFld RX1 45 0 7 .int false := ⟨RX1, TX1, 15, tyX1, "MouldVotes", clX1, Nat.le_of_ble_eq_true rfl, Or.inl q282, Or.inl rfl, rfl, rfl, fun q => by cases q⟩
theorem rX1_45 : xFldR RX1 45 0 7 .int false := ⟨RX1, TX1, 15, tyX1, "MouldVotes", clX1, Nat.le_of_ble_eq_true rfl, Or.inl q282, Or.inl rfl, rfl, rfl⟩
theorem fX1_49 : xFld RX1 49 0 8 (.array .int) true := ⟨RX1, TX1, 15, tyX1, "MouldVotes", clX1, Nat.le_of_ble_eq_true rfl, Or.inl q283, Or.inl rfl, rfl, rfl, fun _ => rfl⟩
theorem rX1_49 : xFldR RX1 49 0 8 (.array .int) true := ⟨RX1, TX1, 15, tyX1, "MouldVotes", clX1, Nat.le_of_ble_eq_true rfl, Or.inl q283, Or.inl rfl, rfl, rfl⟩
theorem fX1_55 : xFld RX1 55 0 9 (.object "java/util/List") false := ⟨RX1, TX1, 15, tyX1, "MouldVotes", clX1, Nat.le_of_ble_eq_true rfl, Or.inl q284, Or.inl rfl, rfl, rfl, fun q => by cases q⟩
theorem rX1_55 : xFldR RX1 55 0 9 (.object "java/util/List") false := ⟨RX1, TX1, 15, tyX1, "MouldVotes", clX1, Nat.le_of_ble_eq_true rfl, Or.inl q284, Or.inl rfl, rfl, rfl⟩
theorem fX1_59 : xFld RX1 59 0 10 (.object "java/util/List") false := ⟨RX1, TX1, 15, tyX1, "MouldVotes", clX1, Nat.le_of_ble_eq_true rfl, Or.inl q285, Or.inl rfl, rfl, rfl, fun q => by cases q⟩
theorem rX1_59 : xFldR RX1 59 0 10 (.object "java/util/List") false := ⟨RX1, TX1, 15, tyX1, "MouldVotes", clX1, Nat.le_of_ble_eq_true rfl, Or.inl q285, Or.inl rfl, rfl, rfl⟩
theorem fX1_62 : xFld RX1 62 0 6 .int false := ⟨RX1, TX1, 15, tyX1, "MouldVotes", clX1, Nat.le_of_ble_eq_true rfl, Or.inl q281, Or.inl rfl, rfl, rfl, fun q => by cases q⟩
theorem rX1_62 : xFldR RX1 62 0 6 .int false := ⟨RX1, TX1, 15, tyX1, "MouldVotes", clX1, Nat.le_of_ble_eq_true rfl, Or.inl q281, Or.inl rfl, rfl, rfl⟩
theorem rX1_80 : xFldR RX1 80 4 9 .int false := ⟨RX5, TX5, 15, tyX5, "MouldVotes$Reader", clX5, Nat.le_of_ble_eq_true rfl, Or.inr ⟨_, q842⟩, Or.inl rfl, rfl, rfl⟩
theorem rX1_83 : xFldR RX1 83 5 6 .int true := ⟨RX6, TX6, 7, tyX6, "MouldVotes$Wrong", clX6, Nat.le_of_ble_eq_true rfl, Or.inr ⟨_, q1031⟩, Or.inl rfl, rfl, rfl⟩
theorem rX1_86 : xFldR RX1 86 4 2 (.object "MouldVotes$Growth") true := ⟨RX5, TX5, 15, tyX5, "MouldVotes$Reader", clX5, Nat.le_of_ble_eq_true rfl, Or.inr ⟨_, q834⟩, Or.inl rfl, rfl, rfl⟩
theorem fX1_89 : xFld RX1 89 0 11 (.object "MouldVotes$Growth") false := ⟨RX1, TX1, 15, tyX1, "MouldVotes", clX1, Nat.le_of_ble_eq_true rfl, Or.inl q286, Or.inl rfl, rfl, rfl, fun q => by cases q⟩
theorem rX1_89 : xFldR RX1 89 0 11 (.object "MouldVotes$Growth") false := ⟨RX1, TX1, 15, tyX1, "MouldVotes", clX1, Nat.le_of_ble_eq_true rfl, Or.inl q286, Or.inl rfl, rfl, rfl⟩
theorem rX1_96 : xFldR RX1 96 2 2 (.array .int) true := ⟨RX3, TX3, 6, tyX3, "MouldVotes$Growth", clX3, Nat.le_of_ble_eq_true rfl, Or.inr ⟨_, q248⟩, Or.inl rfl, rfl, rfl⟩
theorem rX1_98 : xFldR RX1 98 1 2 .int false := ⟨RX2, TX2, 8, tyX2, "MouldVotes$Roll", clX2, Nat.le_of_ble_eq_true rfl, Or.inr ⟨_, q202⟩, Or.inl rfl, rfl, rfl⟩
theorem rX1_101 : xFldR RX1 101 1 0 (.object "java/util/List") true := ⟨RX2, TX2, 8, tyX2, "MouldVotes$Roll", clX2, Nat.le_of_ble_eq_true rfl, Or.inr ⟨_, q196⟩, Or.inl rfl, rfl, rfl⟩
theorem rX1_109 : xFldR RX1 109 2 4 .int false := ⟨RX3, TX3, 6, tyX3, "MouldVotes$Growth", clX3, Nat.le_of_ble_eq_true rfl, Or.inr ⟨_, q254⟩, Or.inl rfl, rfl, rfl⟩
theorem rX1_116 : xFldR RX1 116 1 4 .int false := ⟨RX2, TX2, 8, tyX2, "MouldVotes$Roll", clX2, Nat.le_of_ble_eq_true rfl, Or.inr ⟨_, q207⟩, Or.inl rfl, rfl, rfl⟩
theorem rX1_119 : xFldR RX1 119 1 5 .int false := ⟨RX2, TX2, 8, tyX2, "MouldVotes$Roll", clX2, Nat.le_of_ble_eq_true rfl, Or.inr ⟨_, q212⟩, Or.inl rfl, rfl, rfl⟩
theorem rX1_149 : xFldR RX1 149 2 0 (.array .int) true := ⟨RX3, TX3, 6, tyX3, "MouldVotes$Growth", clX3, Nat.le_of_ble_eq_true rfl, Or.inr ⟨_, q242⟩, Or.inl rfl, rfl, rfl⟩
theorem rX1_152 : xFldR RX1 152 2 1 (.array .int) true := ⟨RX3, TX3, 6, tyX3, "MouldVotes$Growth", clX3, Nat.le_of_ble_eq_true rfl, Or.inr ⟨_, q245⟩, Or.inl rfl, rfl, rfl⟩
theorem rX1_155 : xFldR RX1 155 2 3 (.array .int) true := ⟨RX3, TX3, 6, tyX3, "MouldVotes$Growth", clX3, Nat.le_of_ble_eq_true rfl, Or.inr ⟨_, q251⟩, Or.inl rfl, rfl, rfl⟩
theorem fX1_276 : xFld RX1 276 0 14 .int false := ⟨RX1, TX1, 15, tyX1, "MouldVotes", clX1, Nat.le_of_ble_eq_true rfl, Or.inl q289, Or.inl rfl, rfl, rfl, fun q => by cases q⟩
theorem rX1_276 : xFldR RX1 276 0 14 .int false := ⟨RX1, TX1, 15, tyX1, "MouldVotes", clX1, Nat.le_of_ble_eq_true rfl, Or.inl q289, Or.inl rfl, rfl, rfl⟩
theorem fX1_293 : xFld RX1 293 0 12 (.object "java/util/List") false := ⟨RX1, TX1, 15, tyX1, "MouldVotes", clX1, Nat.le_of_ble_eq_true rfl, Or.inl q287, Or.inl rfl, rfl, rfl, fun q => by cases q⟩
theorem rX1_293 : xFldR RX1 293 0 12 (.object "java/util/List") false := ⟨RX1, TX1, 15, tyX1, "MouldVotes", clX1, Nat.le_of_ble_eq_true rfl, Or.inl q287, Or.inl rfl, rfl, rfl⟩
theorem fX1_296 : xFld RX1 296 0 13 (.object "java/util/List") false := ⟨RX1, TX1, 15, tyX1, "MouldVotes", clX1, Nat.le_of_ble_eq_true rfl, Or.inl q288, Or.inl rfl, rfl, rfl, fun q => by cases q⟩
theorem rX1_296 : xFldR RX1 296 0 13 (.object "java/util/List") false := ⟨RX1, TX1, 15, tyX1, "MouldVotes", clX1, Nat.le_of_ble_eq_true rfl, Or.inl q288, Or.inl rfl, rfl, rfl⟩
theorem fX7_10 : xFld RX7 10 6 0 (.object "java/util/List") true := ⟨RX7, TX7, 2, tyX7, "MouldVotes$Chain", clX7, Nat.le_of_ble_eq_true rfl, Or.inl q1141, Or.inl rfl, rfl, rfl, fun _ => rfl⟩
theorem rX7_10 : xFldR RX7 10 6 0 (.object "java/util/List") true := ⟨RX7, TX7, 2, tyX7, "MouldVotes$Chain", clX7, Nat.le_of_ble_eq_true rfl, Or.inl q1141, Or.inl rfl, rfl, rfl⟩
theorem fX7_19 : xFld RX7 19 6 1 (.object "java/lang/StringBuilder") true := ⟨RX7, TX7, 2, tyX7, "MouldVotes$Chain", clX7, Nat.le_of_ble_eq_true rfl, Or.inl q1142, Or.inl rfl, rfl, rfl, fun _ => rfl⟩
theorem rX7_19 : xFldR RX7 19 6 1 (.object "java/lang/StringBuilder") true := ⟨RX7, TX7, 2, tyX7, "MouldVotes$Chain", clX7, Nat.le_of_ble_eq_true rfl, Or.inl q1142, Or.inl rfl, rfl, rfl⟩
theorem fX3_3 : xFld RX3 3 2 5 (.object "MouldVotes") true := ⟨RX3, TX3, 6, tyX3, "MouldVotes$Growth", clX3, Nat.le_of_ble_eq_true rfl, Or.inl q255, Or.inl rfl, rfl, rfl, fun _ => rfl⟩
theorem rX3_3 : xFldR RX3 3 2 5 (.object "MouldVotes") true := ⟨RX3, TX3, 6, tyX3, "MouldVotes$Growth", clX3, Nat.le_of_ble_eq_true rfl, Or.inl q255, Or.inl rfl, rfl, rfl⟩
theorem fX3_15 : xFld RX3 15 2 0 (.array .int) true := ⟨RX3, TX3, 6, tyX3, "MouldVotes$Growth", clX3, Nat.le_of_ble_eq_true rfl, Or.inl q241, Or.inl rfl, rfl, rfl, fun _ => rfl⟩
theorem rX3_15 : xFldR RX3 15 2 0 (.array .int) true := ⟨RX3, TX3, 6, tyX3, "MouldVotes$Growth", clX3, Nat.le_of_ble_eq_true rfl, Or.inl q241, Or.inl rfl, rfl, rfl⟩
theorem fX3_19 : xFld RX3 19 2 1 (.array .int) true := ⟨RX3, TX3, 6, tyX3, "MouldVotes$Growth", clX3, Nat.le_of_ble_eq_true rfl, Or.inl q244, Or.inl rfl, rfl, rfl, fun _ => rfl⟩
theorem rX3_19 : xFldR RX3 19 2 1 (.array .int) true := ⟨RX3, TX3, 6, tyX3, "MouldVotes$Growth", clX3, Nat.le_of_ble_eq_true rfl, Or.inl q244, Or.inl rfl, rfl, rfl⟩
theorem fX3_22 : xFld RX3 22 2 2 (.array .int) true := ⟨RX3, TX3, 6, tyX3, "MouldVotes$Growth", clX3, Nat.le_of_ble_eq_true rfl, Or.inl q247, Or.inl rfl, rfl, rfl, fun _ => rfl⟩
theorem rX3_22 : xFldR RX3 22 2 2 (.array .int) true := ⟨RX3, TX3, 6, tyX3, "MouldVotes$Growth", clX3, Nat.le_of_ble_eq_true rfl, Or.inl q247, Or.inl rfl, rfl, rfl⟩
theorem fX3_25 : xFld RX3 25 2 3 (.array .int) true := ⟨RX3, TX3, 6, tyX3, "MouldVotes$Growth", clX3, Nat.le_of_ble_eq_true rfl, Or.inl q250, Or.inl rfl, rfl, rfl, fun _ => rfl⟩
theorem rX3_25 : xFldR RX3 25 2 3 (.array .int) true := ⟨RX3, TX3, 6, tyX3, "MouldVotes$Growth", clX3, Nat.le_of_ble_eq_true rfl, Or.inl q250, Or.inl rfl, rfl, rfl⟩
theorem fX3_35 : xFld RX3 35 2 4 .int false := ⟨RX3, TX3, 6, tyX3, "MouldVotes$Growth", clX3, Nat.le_of_ble_eq_true rfl, Or.inl q253, Or.inl rfl, rfl, rfl, fun q => by cases q⟩
theorem rX3_35 : xFldR RX3 35 2 4 .int false := ⟨RX3, TX3, 6, tyX3, "MouldVotes$Growth", clX3, Nat.le_of_ble_eq_true rfl, Or.inl q253, Or.inl rfl, rfl, rfl⟩
theorem rX3_39 : xFldR RX3 39 0 1 (.object "MouldVotes$Roll") false := ⟨RX1, TX1, 15, tyX1, "MouldVotes", clX1, Nat.le_of_ble_eq_true rfl, Or.inr ⟨_, q273⟩, Or.inl rfl, rfl, rfl⟩
theorem rX3_62 : xFldR RX3 62 1 6 (.object "MouldVotes$Form") false := ⟨RX2, TX2, 8, tyX2, "MouldVotes$Roll", clX2, Nat.le_of_ble_eq_true rfl, Or.inr ⟨_, q214⟩, Or.inl rfl, rfl, rfl⟩
theorem rX3_66 : xFldR RX3 66 0 0 (.array .int) true := ⟨RX1, TX1, 15, tyX1, "MouldVotes", clX1, Nat.le_of_ble_eq_true rfl, Or.inr ⟨_, q272⟩, Or.inl rfl, rfl, rfl⟩
theorem rX3_85 : xFldR RX3 85 1 7 (.object "MouldVotes$Form") false := ⟨RX2, TX2, 8, tyX2, "MouldVotes$Roll", clX2, Nat.le_of_ble_eq_true rfl, Or.inr ⟨_, q216⟩, Or.inl rfl, rfl, rfl⟩
theorem rX3_94 : xFldR RX3 94 1 5 .int false := ⟨RX2, TX2, 8, tyX2, "MouldVotes$Roll", clX2, Nat.le_of_ble_eq_true rfl, Or.inr ⟨_, q211⟩, Or.inl rfl, rfl, rfl⟩
theorem rX3_103 : xFldR RX3 103 0 2 (.object "MouldVotes$Growth") true := ⟨RX1, TX1, 15, tyX1, "MouldVotes", clX1, Nat.le_of_ble_eq_true rfl, Or.inr ⟨_, q276⟩, Or.inl rfl, rfl, rfl⟩
theorem rX3_121 : xFldR RX3 121 1 4 .int false := ⟨RX2, TX2, 8, tyX2, "MouldVotes$Roll", clX2, Nat.le_of_ble_eq_true rfl, Or.inr ⟨_, q208⟩, Or.inl rfl, rfl, rfl⟩
theorem rX3_128 : xFldR RX3 128 1 0 (.object "java/util/List") true := ⟨RX2, TX2, 8, tyX2, "MouldVotes$Roll", clX2, Nat.le_of_ble_eq_true rfl, Or.inr ⟨_, q197⟩, Or.inl rfl, rfl, rfl⟩
theorem fX10_7 : xFld RX10 7 9 0 (.object "MouldVotes$Form") true := ⟨RX10, TX10, 1, tyX10, "MouldVotes$Not", clX10, Nat.le_of_ble_eq_true rfl, Or.inl q1226, Or.inl rfl, rfl, rfl, fun _ => rfl⟩
theorem rX10_7 : xFldR RX10 7 9 0 (.object "MouldVotes$Form") true := ⟨RX10, TX10, 1, tyX10, "MouldVotes$Not", clX10, Nat.le_of_ble_eq_true rfl, Or.inl q1226, Or.inl rfl, rfl, rfl⟩
theorem fX8_7 : xFld RX8 7 7 0 .int true := ⟨RX8, TX8, 1, tyX8, "MouldVotes$Number", clX8, Nat.le_of_ble_eq_true rfl, Or.inl q1091, Or.inl rfl, rfl, rfl, fun _ => rfl⟩
theorem rX8_7 : xFldR RX8 7 7 0 .int true := ⟨RX8, TX8, 1, tyX8, "MouldVotes$Number", clX8, Nat.le_of_ble_eq_true rfl, Or.inl q1091, Or.inl rfl, rfl, rfl⟩
theorem fX5_3 : xFld RX5 3 4 14 (.object "MouldVotes") true := ⟨RX5, TX5, 15, tyX5, "MouldVotes$Reader", clX5, Nat.le_of_ble_eq_true rfl, Or.inl q847, Or.inl rfl, rfl, rfl, fun _ => rfl⟩
theorem rX5_3 : xFldR RX5 3 4 14 (.object "MouldVotes") true := ⟨RX5, TX5, 15, tyX5, "MouldVotes$Reader", clX5, Nat.le_of_ble_eq_true rfl, Or.inl q847, Or.inl rfl, rfl, rfl⟩
theorem fX5_18 : xFld RX5 18 4 1 (.object "MouldVotes$Roll") true := ⟨RX5, TX5, 15, tyX5, "MouldVotes$Reader", clX5, Nat.le_of_ble_eq_true rfl, Or.inl q832, Or.inl rfl, rfl, rfl, fun _ => rfl⟩
theorem rX5_18 : xFldR RX5 18 4 1 (.object "MouldVotes$Roll") true := ⟨RX5, TX5, 15, tyX5, "MouldVotes$Reader", clX5, Nat.le_of_ble_eq_true rfl, Or.inl q832, Or.inl rfl, rfl, rfl⟩
theorem fX5_27 : xFld RX5 27 4 2 (.object "MouldVotes$Growth") true := ⟨RX5, TX5, 15, tyX5, "MouldVotes$Reader", clX5, Nat.le_of_ble_eq_true rfl, Or.inl q833, Or.inl rfl, rfl, rfl, fun _ => rfl⟩
theorem rX5_27 : xFldR RX5 27 4 2 (.object "MouldVotes$Growth") true := ⟨RX5, TX5, 15, tyX5, "MouldVotes$Reader", clX5, Nat.le_of_ble_eq_true rfl, Or.inl q833, Or.inl rfl, rfl, rfl⟩
theorem fX5_45 : xFld RX5 45 4 3 (.array (.object "java/lang/String")) true := ⟨RX5, TX5, 15, tyX5, "MouldVotes$Reader", clX5, Nat.le_of_ble_eq_true rfl, Or.inl q835, Or.inl rfl, rfl, rfl, fun _ => rfl⟩
theorem rX5_45 : xFldR RX5 45 4 3 (.array (.object "java/lang/String")) true := ⟨RX5, TX5, 15, tyX5, "MouldVotes$Reader", clX5, Nat.le_of_ble_eq_true rfl, Or.inl q835, Or.inl rfl, rfl, rfl⟩
theorem fX5_61 : xFld RX5 61 4 4 (.array (.object "java/lang/String")) true := ⟨RX5, TX5, 15, tyX5, "MouldVotes$Reader", clX5, Nat.le_of_ble_eq_true rfl, Or.inl q836, Or.inl rfl, rfl, rfl, fun _ => rfl⟩
theorem rX5_61 : xFldR RX5 61 4 4 (.array (.object "java/lang/String")) true := ⟨RX5, TX5, 15, tyX5, "MouldVotes$Reader", clX5, Nat.le_of_ble_eq_true rfl, Or.inl q836, Or.inl rfl, rfl, rfl⟩
theorem fX5_66 : xFld RX5 66 4 5 (.array (.object "java/lang/String")) true := ⟨RX5, TX5, 15, tyX5, "MouldVotes$Reader", clX5, Nat.le_of_ble_eq_true rfl, Or.inl q837, Or.inl rfl, rfl, rfl, fun _ => rfl⟩
theorem rX5_66 : xFldR RX5 66 4 5 (.array (.object "java/lang/String")) true := ⟨RX5, TX5, 15, tyX5, "MouldVotes$Reader", clX5, Nat.le_of_ble_eq_true rfl, Or.inl q837, Or.inl rfl, rfl, rfl⟩
theorem fX5_69 : xFld RX5 69 4 6 (.array (.object "java/lang/String")) false := ⟨RX5, TX5, 15, tyX5, "MouldVotes$Reader", clX5, Nat.le_of_ble_eq_true rfl, Or.inl q838, Or.inl rfl, rfl, rfl, fun q => by cases q⟩
theorem rX5_69 : xFldR RX5 69 4 6 (.array (.object "java/lang/String")) false := ⟨RX5, TX5, 15, tyX5, "MouldVotes$Reader", clX5, Nat.le_of_ble_eq_true rfl, Or.inl q838, Or.inl rfl, rfl, rfl⟩
theorem fX5_72 : xFld RX5 72 4 0 .int true := ⟨RX5, TX5, 15, tyX5, "MouldVotes$Reader", clX5, Nat.le_of_ble_eq_true rfl, Or.inl q831, Or.inl rfl, rfl, rfl, fun _ => rfl⟩
theorem rX5_72 : xFldR RX5 72 4 0 .int true := ⟨RX5, TX5, 15, tyX5, "MouldVotes$Reader", clX5, Nat.le_of_ble_eq_true rfl, Or.inl q831, Or.inl rfl, rfl, rfl⟩
theorem fX5_75 : xFld RX5 75 4 7 .int false := ⟨RX5, TX5, 15, tyX5, "MouldVotes$Reader", clX5, Nat.le_of_ble_eq_true rfl, Or.inl q839, Or.inl rfl, rfl, rfl, fun q => by cases q⟩
theorem rX5_75 : xFldR RX5 75 4 7 .int false := ⟨RX5, TX5, 15, tyX5, "MouldVotes$Reader", clX5, Nat.le_of_ble_eq_true rfl, Or.inl q839, Or.inl rfl, rfl, rfl⟩
theorem rX5_78 : xFldR RX5 78 0 5 (.array .byte) true := ⟨RX1, TX1, 15, tyX1, "MouldVotes", clX1, Nat.le_of_ble_eq_true rfl, Or.inr ⟨_, q279⟩, Or.inl rfl, rfl, rfl⟩
theorem fX5_90 : xFld RX5 90 4 9 .int false := ⟨RX5, TX5, 15, tyX5, "MouldVotes$Reader", clX5, Nat.le_of_ble_eq_true rfl, Or.inl q841, Or.inl rfl, rfl, rfl, fun q => by cases q⟩
theorem rX5_90 : xFldR RX5 90 4 9 .int false := ⟨RX5, TX5, 15, tyX5, "MouldVotes$Reader", clX5, Nat.le_of_ble_eq_true rfl, Or.inl q841, Or.inl rfl, rfl, rfl⟩
theorem fX5_93 : xFld RX5 93 4 8 .int false := ⟨RX5, TX5, 15, tyX5, "MouldVotes$Reader", clX5, Nat.le_of_ble_eq_true rfl, Or.inl q840, Or.inl rfl, rfl, rfl, fun q => by cases q⟩
theorem rX5_93 : xFldR RX5 93 4 8 .int false := ⟨RX5, TX5, 15, tyX5, "MouldVotes$Reader", clX5, Nat.le_of_ble_eq_true rfl, Or.inl q840, Or.inl rfl, rfl, rfl⟩
theorem fX5_103 : xFld RX5 103 4 11 .int false := ⟨RX5, TX5, 15, tyX5, "MouldVotes$Reader", clX5, Nat.le_of_ble_eq_true rfl, Or.inl q844, Or.inl rfl, rfl, rfl, fun q => by cases q⟩
theorem rX5_103 : xFldR RX5 103 4 11 .int false := ⟨RX5, TX5, 15, tyX5, "MouldVotes$Reader", clX5, Nat.le_of_ble_eq_true rfl, Or.inl q844, Or.inl rfl, rfl, rfl⟩
theorem fX5_119 : xFld RX5 119 4 10 .int false := ⟨RX5, TX5, 15, tyX5, "MouldVotes$Reader", clX5, Nat.le_of_ble_eq_true rfl, Or.inl q843, Or.inl rfl, rfl, rfl, fun q => by cases q⟩
theorem rX5_119 : xFldR RX5 119 4 10 .int false := ⟨RX5, TX5, 15, tyX5, "MouldVotes$Reader", clX5, Nat.le_of_ble_eq_true rfl, Or.inl q843, Or.inl rfl, rfl, rfl⟩
theorem fX5_216 : xFld RX5 216 4 13 .int false := ⟨RX5, TX5, 15, tyX5, "MouldVotes$Reader", clX5, Nat.le_of_ble_eq_true rfl, Or.inl q846, Or.inl rfl, rfl, rfl, fun q => by cases q⟩
theorem rX5_216 : xFldR RX5 216 4 13 .int false := ⟨RX5, TX5, 15, tyX5, "MouldVotes$Reader", clX5, Nat.le_of_ble_eq_true rfl, Or.inl q846, Or.inl rfl, rfl, rfl⟩
theorem rX5_223 : xFldR RX5 223 2 0 (.array .int) true := ⟨RX3, TX3, 6, tyX3, "MouldVotes$Growth", clX3, Nat.le_of_ble_eq_true rfl, Or.inr ⟨_, q243⟩, Or.inl rfl, rfl, rfl⟩
theorem rX5_226 : xFldR RX5 226 2 1 (.array .int) true := ⟨RX3, TX3, 6, tyX3, "MouldVotes$Growth", clX3, Nat.le_of_ble_eq_true rfl, Or.inr ⟨_, q246⟩, Or.inl rfl, rfl, rfl⟩
theorem rX5_228 : xFldR RX5 228 2 2 (.array .int) true := ⟨RX3, TX3, 6, tyX3, "MouldVotes$Growth", clX3, Nat.le_of_ble_eq_true rfl, Or.inr ⟨_, q249⟩, Or.inl rfl, rfl, rfl⟩
theorem rX5_230 : xFldR RX5 230 1 0 (.object "java/util/List") true := ⟨RX2, TX2, 8, tyX2, "MouldVotes$Roll", clX2, Nat.le_of_ble_eq_true rfl, Or.inr ⟨_, q198⟩, Or.inl rfl, rfl, rfl⟩
theorem rX5_238 : xFldR RX5 238 2 3 (.array .int) true := ⟨RX3, TX3, 6, tyX3, "MouldVotes$Growth", clX3, Nat.le_of_ble_eq_true rfl, Or.inr ⟨_, q252⟩, Or.inl rfl, rfl, rfl⟩
theorem rX5_240 : xFldR RX5 240 1 1 (.object "java/util/List") true := ⟨RX2, TX2, 8, tyX2, "MouldVotes$Roll", clX2, Nat.le_of_ble_eq_true rfl, Or.inr ⟨_, q200⟩, Or.inl rfl, rfl, rfl⟩
theorem fX5_255 : xFld RX5 255 4 12 .int false := ⟨RX5, TX5, 15, tyX5, "MouldVotes$Reader", clX5, Nat.le_of_ble_eq_true rfl, Or.inl q845, Or.inl rfl, rfl, rfl, fun q => by cases q⟩
theorem rX5_255 : xFldR RX5 255 4 12 .int false := ⟨RX5, TX5, 15, tyX5, "MouldVotes$Reader", clX5, Nat.le_of_ble_eq_true rfl, Or.inl q845, Or.inl rfl, rfl, rfl⟩
theorem fX5_258 : xFld RX5 258 1 2 .int false := ⟨RX2, TX2, 8, tyX2, "MouldVotes$Roll", clX2, Nat.le_of_ble_eq_true rfl, Or.inr ⟨_, q203⟩, Or.inl rfl, rfl, rfl, fun q => by cases q⟩
theorem fX5_261 : xFld RX5 261 1 3 .int false := ⟨RX2, TX2, 8, tyX2, "MouldVotes$Roll", clX2, Nat.le_of_ble_eq_true rfl, Or.inr ⟨_, q205⟩, Or.inl rfl, rfl, rfl, fun q => by cases q⟩
theorem fX5_266 : xFld RX5 266 1 4 .int false := ⟨RX2, TX2, 8, tyX2, "MouldVotes$Roll", clX2, Nat.le_of_ble_eq_true rfl, Or.inr ⟨_, q209⟩, Or.inl rfl, rfl, rfl, fun q => by cases q⟩
theorem fX5_268 : xFld RX5 268 1 5 .int false := ⟨RX2, TX2, 8, tyX2, "MouldVotes$Roll", clX2, Nat.le_of_ble_eq_true rfl, Or.inr ⟨_, q213⟩, Or.inl rfl, rfl, rfl, fun q => by cases q⟩
theorem fX5_270 : xFld RX5 270 1 6 (.object "MouldVotes$Form") false := ⟨RX2, TX2, 8, tyX2, "MouldVotes$Roll", clX2, Nat.le_of_ble_eq_true rfl, Or.inr ⟨_, q215⟩, Or.inl rfl, rfl, rfl, fun q => by cases q⟩
theorem fX5_273 : xFld RX5 273 1 7 (.object "MouldVotes$Form") false := ⟨RX2, TX2, 8, tyX2, "MouldVotes$Roll", clX2, Nat.le_of_ble_eq_true rfl, Or.inr ⟨_, q217⟩, Or.inl rfl, rfl, rfl, fun q => by cases q⟩
theorem fX2_10 : xFld RX2 10 1 0 (.object "java/util/List") true := ⟨RX2, TX2, 8, tyX2, "MouldVotes$Roll", clX2, Nat.le_of_ble_eq_true rfl, Or.inl q195, Or.inl rfl, rfl, rfl, fun _ => rfl⟩
theorem fX2_16 : xFld RX2 16 1 1 (.object "java/util/List") true := ⟨RX2, TX2, 8, tyX2, "MouldVotes$Roll", clX2, Nat.le_of_ble_eq_true rfl, Or.inl q199, Or.inl rfl, rfl, rfl, fun _ => rfl⟩
theorem rX2_16 : xFldR RX2 16 1 1 (.object "java/util/List") true := ⟨RX2, TX2, 8, tyX2, "MouldVotes$Roll", clX2, Nat.le_of_ble_eq_true rfl, Or.inl q199, Or.inl rfl, rfl, rfl⟩
theorem fX2_19 : xFld RX2 19 1 2 .int false := ⟨RX2, TX2, 8, tyX2, "MouldVotes$Roll", clX2, Nat.le_of_ble_eq_true rfl, Or.inl q201, Or.inl rfl, rfl, rfl, fun q => by cases q⟩
theorem rX2_19 : xFldR RX2 19 1 2 .int false := ⟨RX2, TX2, 8, tyX2, "MouldVotes$Roll", clX2, Nat.le_of_ble_eq_true rfl, Or.inl q201, Or.inl rfl, rfl, rfl⟩
theorem fX2_23 : xFld RX2 23 1 3 .int false := ⟨RX2, TX2, 8, tyX2, "MouldVotes$Roll", clX2, Nat.le_of_ble_eq_true rfl, Or.inl q204, Or.inl rfl, rfl, rfl, fun q => by cases q⟩
theorem rX2_23 : xFldR RX2 23 1 3 .int false := ⟨RX2, TX2, 8, tyX2, "MouldVotes$Roll", clX2, Nat.le_of_ble_eq_true rfl, Or.inl q204, Or.inl rfl, rfl, rfl⟩
theorem fX2_26 : xFld RX2 26 1 4 .int false := ⟨RX2, TX2, 8, tyX2, "MouldVotes$Roll", clX2, Nat.le_of_ble_eq_true rfl, Or.inl q206, Or.inl rfl, rfl, rfl, fun q => by cases q⟩
theorem fX2_29 : xFld RX2 29 1 5 .int false := ⟨RX2, TX2, 8, tyX2, "MouldVotes$Roll", clX2, Nat.le_of_ble_eq_true rfl, Or.inl q210, Or.inl rfl, rfl, rfl, fun q => by cases q⟩
theorem fX9_7 : xFld RX9 7 8 0 .int true := ⟨RX9, TX9, 1, tyX9, "MouldVotes$Value", clX9, Nat.le_of_ble_eq_true rfl, Or.inl q1101, Or.inl rfl, rfl, rfl, fun _ => rfl⟩
theorem rX9_7 : xFldR RX9 7 8 0 .int true := ⟨RX9, TX9, 1, tyX9, "MouldVotes$Value", clX9, Nat.le_of_ble_eq_true rfl, Or.inl q1101, Or.inl rfl, rfl, rfl⟩
theorem fX6_7 : xFld RX6 7 5 6 .int true := ⟨RX6, TX6, 7, tyX6, "MouldVotes$Wrong", clX6, Nat.le_of_ble_eq_true rfl, Or.inl q1030, Or.inl rfl, rfl, rfl, fun _ => rfl⟩
theorem fJ17_15 : xFld RJ17 15 12 0 (.array .byte) false := ⟨RJ18, TJ18, 4, tyJ18, "java/lang/AbstractStringBuilder", clJ18, Nat.le_of_ble_eq_true rfl, Or.inl q1128, Or.inl rfl, rfl, rfl, fun q => by cases q⟩
theorem rJ17_15 : xFldR RJ17 15 12 0 (.array .byte) false := ⟨RJ18, TJ18, 4, tyJ18, "java/lang/AbstractStringBuilder", clJ18, Nat.le_of_ble_eq_true rfl, Or.inl q1128, Or.inl rfl, rfl, rfl⟩
theorem fJ17_22 : xFld RJ17 22 12 1 .byte false := ⟨RJ18, TJ18, 4, tyJ18, "java/lang/AbstractStringBuilder", clJ18, Nat.le_of_ble_eq_true rfl, Or.inl q1129, Or.inl rfl, rfl, rfl, fun q => by cases q⟩
theorem rJ17_22 : xFldR RJ17 22 12 1 .byte false := ⟨RJ18, TJ18, 4, tyJ18, "java/lang/AbstractStringBuilder", clJ18, Nat.le_of_ble_eq_true rfl, Or.inl q1129, Or.inl rfl, rfl, rfl⟩
theorem fJ17_79 : xFld RJ17 79 12 3 .int false := ⟨RJ18, TJ18, 4, tyJ18, "java/lang/AbstractStringBuilder", clJ18, Nat.le_of_ble_eq_true rfl, Or.inl q1130, Or.inl rfl, rfl, rfl, fun q => by cases q⟩
theorem rJ17_79 : xFldR RJ17 79 12 3 .int false := ⟨RJ18, TJ18, 4, tyJ18, "java/lang/AbstractStringBuilder", clJ18, Nat.le_of_ble_eq_true rfl, Or.inl q1130, Or.inl rfl, rfl, rfl⟩
theorem fJ14_205 : xFld RJ14 205 11 0 .int true := ⟨RJ14, TJ14, 1, tyJ14, "java/lang/Integer", clJ14, Nat.le_of_ble_eq_true rfl, Or.inl q647, Or.inl rfl, rfl, rfl, fun _ => rfl⟩
theorem rJ14_205 : xFldR RJ14 205 11 0 .int true := ⟨RJ14, TJ14, 1, tyJ14, "java/lang/Integer", clJ14, Nat.le_of_ble_eq_true rfl, Or.inl q647, Or.inl rfl, rfl, rfl⟩
theorem fJ3_7 : xFld RJ3 7 5 0 (.object "java/lang/Throwable") false := ⟨RX6, TX6, 7, tyX6, "java/lang/Throwable", clX6, Nat.le_of_ble_eq_true rfl, Or.inl q795, Or.inl rfl, rfl, rfl, fun q => by cases q⟩
theorem fJ3_17 : xFld RJ3 17 5 1 (.array (.object "java/lang/StackTraceElement")) false := ⟨RX6, TX6, 7, tyX6, "java/lang/Throwable", clX6, Nat.le_of_ble_eq_true rfl, Or.inl q796, Or.inl rfl, rfl, rfl, fun q => by cases q⟩
theorem fJ3_24 : xFld RJ3 24 5 2 (.object "java/util/List") false := ⟨RX6, TX6, 7, tyX6, "java/lang/Throwable", clX6, Nat.le_of_ble_eq_true rfl, Or.inl q797, Or.inl rfl, rfl, rfl, fun q => by cases q⟩
theorem fJ3_31 : xFld RJ3 31 5 3 (.object "java/lang/String") false := ⟨RX6, TX6, 7, tyX6, "java/lang/Throwable", clX6, Nat.le_of_ble_eq_true rfl, Or.inl q794, Or.inl rfl, rfl, rfl, fun q => by cases q⟩
theorem fJ1_7 : xFld RJ1 7 10 0 .int false := ⟨RJ2, TJ2, 3, tyJ2, "java/util/AbstractList", clJ2, Nat.le_of_ble_eq_true rfl, Or.inl q184, Or.inl rfl, rfl, rfl, fun q => by cases q⟩
theorem fJ2_9 : xFld RJ2 9 10 1 (.array (.object "java/lang/Object")) false := ⟨RJ2, TJ2, 3, tyJ2, "java/util/ArrayList", clJ2, Nat.le_of_ble_eq_true rfl, Or.inl q182, Or.inl rfl, rfl, rfl, fun q => by cases q⟩
theorem rJ2_9 : xFldR RJ2 9 10 1 (.array (.object "java/lang/Object")) false := ⟨RJ2, TJ2, 3, tyJ2, "java/util/ArrayList", clJ2, Nat.le_of_ble_eq_true rfl, Or.inl q182, Or.inl rfl, rfl, rfl⟩
theorem fJ2_48 : xFld RJ2 48 10 2 .int false := ⟨RJ2, TJ2, 3, tyJ2, "java/util/ArrayList", clJ2, Nat.le_of_ble_eq_true rfl, Or.inl q183, Or.inl rfl, rfl, rfl, fun q => by cases q⟩
theorem rJ2_48 : xFldR RJ2 48 10 2 .int false := ⟨RJ2, TJ2, 3, tyJ2, "java/util/ArrayList", clJ2, Nat.le_of_ble_eq_true rfl, Or.inl q183, Or.inl rfl, rfl, rfl⟩
theorem fJ2_63 : xFld RJ2 63 10 0 .int false := ⟨RJ2, TJ2, 3, tyJ2, "java/util/ArrayList", clJ2, Nat.le_of_ble_eq_true rfl, Or.inl q185, Or.inr q186, rfl, rfl, fun q => by cases q⟩
theorem rJ2_63 : xFldR RJ2 63 10 0 .int false := ⟨RJ2, TJ2, 3, tyJ2, "java/util/ArrayList", clJ2, Nat.le_of_ble_eq_true rfl, Or.inl q185, Or.inr q186, rfl, rfl⟩
theorem twX1_1 : xTh RX1 1 3 "java/util/NoSuchElementException" := xTh.of (by decide +kernel) q1271 q153 (by decide +kernel) (by decide +kernel)
theorem twX1_7 : xTh RX1 7 9 "java/lang/IllegalArgumentException" := xTh.of (by decide +kernel) q742 q131 (by decide +kernel) (by decide +kernel)
