theorem q189 : (Jvm.Cond.arrayOver (Jvm.ClassFile.FieldType.object "java/lang/Object")) ∈ lw_tbl := lw_at lw_m1 64 rfl
set_option maxRecDepth 100000
theorem q204 : (Jvm.Cond.arrayClass Jvm.ClassFile.FieldType.int) ∈ lw_all := lw_g (lw_at lw_m1 79 rfl) rfl
theorem q250 : (Jvm.Cond.arrayOver (Jvm.ClassFile.FieldType.object "RoseThrow$State")) ∈ lw_tbl := lw_at lw_m1 125 rfl
theorem q317 : (Jvm.Cond.arrayClass Jvm.ClassFile.FieldType.byte) ∈ lw_all := lw_g (lw_at lw_m1 192 rfl) rfl
theorem q328 : (Jvm.Cond.arrayClass Jvm.ClassFile.FieldType.long) ∈ lw_all := lw_g (lw_at lw_m1 203 rfl) rfl
theorem q355 : (Jvm.Cond.arrayOver (Jvm.ClassFile.FieldType.object "RoseThrow$Flight")) ∈ lw_tbl := lw_at lw_m1 230 rfl
theorem q1719 : (Jvm.Cond.arrayClass Jvm.ClassFile.FieldType.boolean) ∈ lw_all := lw_g (lw_at lw_m7 154 rfl) rfl
theorem q125 : (Jvm.Cond.initialized "RoseThrowLaw") ∈ lw_all := lw_g (lw_at lw_m1 0 rfl) rfl
set_option maxRecDepth 100000
theorem q162 : (Jvm.Cond.classLink "RoseThrowLaw" (7 : Nat) "RoseThrow") ∈ lw_all := lw_g (lw_at lw_m1 37 rfl) rfl
theorem q164 : (Jvm.Cond.methodLink "RoseThrowLaw" (9 : Nat) ({ cls := "RoseThrow", name := "<init>", desc := "()V" } : Jvm.MethodName)) ∈ lw_all := lw_g (lw_at lw_m1 39 rfl) rfl
theorem q441 : (Jvm.Cond.methodLink "RoseThrowLaw" (161 : Nat) ({ cls := "RoseThrow", name := "image", desc := "(I)I" } : Jvm.MethodName)) ∈ lw_all := lw_g (lw_at lw_m2 76 rfl) rfl
theorem q537 : (Jvm.Cond.methodLink "RoseThrowLaw" (165 : Nat) ({ cls := "RoseThrow", name := "back", desc := "(I)I" } : Jvm.MethodName)) ∈ lw_all := lw_g (lw_at lw_m2 172 rfl) rfl
theorem q545 : (Jvm.Cond.methodLink "RoseThrowLaw" (13 : Nat) ({ cls := "RoseThrow", name := "catcher", desc := "(IIII)I" } : Jvm.MethodName)) ∈ lw_all := lw_g (lw_at lw_m2 180 rfl) rfl
theorem q650 : (Jvm.Cond.methodLink "RoseThrowLaw" (18 : Nat) ({ cls := "RoseThrow", name := "put", desc := "(III)I" } : Jvm.MethodName)) ∈ lw_all := lw_g (lw_at lw_m3 45 rfl) rfl
theorem q658 : (Jvm.Cond.methodLink "RoseThrowLaw" (23 : Nat) ({ cls := "RoseThrow", name := "of", desc := "(II)I" } : Jvm.MethodName)) ∈ lw_all := lw_g (lw_at lw_m3 53 rfl) rfl
theorem q662 : (Jvm.Cond.methodLink "RoseThrowLaw" (28 : Nat) ({ cls := "RoseThrow", name := "terms", desc := "(II)I" } : Jvm.MethodName)) ∈ lw_all := lw_g (lw_at lw_m3 57 rfl) rfl
theorem q669 : (Jvm.Cond.methodLink "RoseThrowLaw" (32 : Nat) ({ cls := "RoseThrow", name := "feed", desc := "(IIIII)I" } : Jvm.MethodName)) ∈ lw_all := lw_g (lw_at lw_m3 64 rfl) rfl
theorem q677 : (Jvm.Cond.methodLink "RoseThrowLaw" (37 : Nat) ({ cls := "RoseThrow", name := "end", desc := "(I)I" } : Jvm.MethodName)) ∈ lw_all := lw_g (lw_at lw_m3 72 rfl) rfl
theorem q681 : (Jvm.Cond.methodLink "RoseThrowLaw" (42 : Nat) ({ cls := "RoseThrow", name := "row", desc := "()I" } : Jvm.MethodName)) ∈ lw_all := lw_g (lw_at lw_m3 76 rfl) rfl
theorem q685 : (Jvm.Cond.methodLink "RoseThrowLaw" (47 : Nat) ({ cls := "RoseThrow", name := "rice", desc := "()I" } : Jvm.MethodName)) ∈ lw_all := lw_g (lw_at lw_m3 80 rfl) rfl
theorem q689 : (Jvm.Cond.methodLink "RoseThrowLaw" (51 : Nat) ({ cls := "RoseThrow", name := "law", desc := "()I" } : Jvm.MethodName)) ∈ lw_all := lw_g (lw_at lw_m3 84 rfl) rfl
theorem q1168 : (Jvm.Cond.methodLink "RoseThrowLaw" (59 : Nat) ({ cls := "RoseThrow", name := "fault", desc := "()I" } : Jvm.MethodName)) ∈ lw_all := lw_g (lw_at lw_m5 83 rfl) rfl
theorem q1172 : (Jvm.Cond.methodLink "RoseThrowLaw" (63 : Nat) ({ cls := "RoseThrow", name := "stopped", desc := "()I" } : Jvm.MethodName)) ∈ lw_all := lw_g (lw_at lw_m5 87 rfl) rfl
theorem q1176 : (Jvm.Cond.methodLink "RoseThrowLaw" (67 : Nat) ({ cls := "RoseThrow", name := "force", desc := "(I)I" } : Jvm.MethodName)) ∈ lw_all := lw_g (lw_at lw_m5 91 rfl) rfl
theorem q1180 : (Jvm.Cond.methodLink "RoseThrowLaw" (71 : Nat) ({ cls := "RoseThrow", name := "asks", desc := "(III)I" } : Jvm.MethodName)) ∈ lw_all := lw_g (lw_at lw_m5 95 rfl) rfl
theorem q1205 : (Jvm.Cond.methodLink "RoseThrowLaw" (75 : Nat) ({ cls := "RoseThrow", name := "go", desc := "(II)I" } : Jvm.MethodName)) ∈ lw_all := lw_g (lw_at lw_m5 120 rfl) rfl
theorem q1222 : (Jvm.Cond.methodLink "RoseThrowLaw" (79 : Nat) ({ cls := "RoseThrow", name := "believe", desc := "(II)I" } : Jvm.MethodName)) ∈ lw_all := lw_g (lw_at lw_m5 137 rfl) rfl
theorem q1230 : (Jvm.Cond.methodLink "RoseThrowLaw" (83 : Nat) ({ cls := "RoseThrow", name := "rush", desc := "()I" } : Jvm.MethodName)) ∈ lw_all := lw_g (lw_at lw_m5 145 rfl) rfl
theorem q1245 : (Jvm.Cond.methodLink "RoseThrowLaw" (87 : Nat) ({ cls := "RoseThrow", name := "undo", desc := "()I" } : Jvm.MethodName)) ∈ lw_all := lw_g (lw_at lw_m5 160 rfl) rfl
theorem q1249 : (Jvm.Cond.methodLink "RoseThrowLaw" (91 : Nat) ({ cls := "RoseThrow", name := "comes", desc := "(II)I" } : Jvm.MethodName)) ∈ lw_all := lw_g (lw_at lw_m5 164 rfl) rfl
theorem q1287 : (Jvm.Cond.methodLink "RoseThrowLaw" (95 : Nat) ({ cls := "RoseThrow", name := "has", desc := "(II)J" } : Jvm.MethodName)) ∈ lw_all := lw_g (lw_at lw_m5 202 rfl) rfl
theorem q1314 : (Jvm.Cond.methodLink "RoseThrowLaw" (100 : Nat) ({ cls := "RoseThrow", name := "stand", desc := "(II)J" } : Jvm.MethodName)) ∈ lw_all := lw_g (lw_at lw_m5 229 rfl) rfl
theorem q1326 : (Jvm.Cond.methodLink "RoseThrowLaw" (104 : Nat) ({ cls := "RoseThrow", name := "rests", desc := "(I)I" } : Jvm.MethodName)) ∈ lw_all := lw_g (lw_at lw_m6 1 rfl) rfl
theorem q1334 : (Jvm.Cond.methodLink "RoseThrowLaw" (108 : Nat) ({ cls := "RoseThrow", name := "friend", desc := "(II)J" } : Jvm.MethodName)) ∈ lw_all := lw_g (lw_at lw_m6 9 rfl) rfl
theorem q1357 : (Jvm.Cond.methodLink "RoseThrowLaw" (112 : Nat) ({ cls := "RoseThrow", name := "heard", desc := "(II)J" } : Jvm.MethodName)) ∈ lw_all := lw_g (lw_at lw_m6 32 rfl) rfl
theorem q1369 : (Jvm.Cond.methodLink "RoseThrowLaw" (116 : Nat) ({ cls := "RoseThrow", name := "feint", desc := "(II)J" } : Jvm.MethodName)) ∈ lw_all := lw_g (lw_at lw_m6 44 rfl) rfl
theorem q1373 : (Jvm.Cond.methodLink "RoseThrowLaw" (120 : Nat) ({ cls := "RoseThrow", name := "safest", desc := "(II)I" } : Jvm.MethodName)) ∈ lw_all := lw_g (lw_at lw_m6 48 rfl) rfl
theorem q1381 : (Jvm.Cond.methodLink "RoseThrowLaw" (124 : Nat) ({ cls := "RoseThrow", name := "crowd", desc := "(I)J" } : Jvm.MethodName)) ∈ lw_all := lw_g (lw_at lw_m6 56 rfl) rfl
theorem q1385 : (Jvm.Cond.methodLink "RoseThrowLaw" (129 : Nat) ({ cls := "RoseThrow", name := "again", desc := "(I)J" } : Jvm.MethodName)) ∈ lw_all := lw_g (lw_at lw_m6 60 rfl) rfl
theorem q1389 : (Jvm.Cond.methodLink "RoseThrowLaw" (133 : Nat) ({ cls := "RoseThrow", name := "truly", desc := "(I)J" } : Jvm.MethodName)) ∈ lw_all := lw_g (lw_at lw_m6 64 rfl) rfl
theorem q1394 : (Jvm.Cond.methodLink "RoseThrowLaw" (137 : Nat) ({ cls := "RoseThrow", name := "meant", desc := "(II)J" } : Jvm.MethodName)) ∈ lw_all := lw_g (lw_at lw_m6 69 rfl) rfl
theorem q1398 : (Jvm.Cond.methodLink "RoseThrowLaw" (141 : Nat) ({ cls := "RoseThrow", name := "film", desc := "(I)I" } : Jvm.MethodName)) ∈ lw_all := lw_g (lw_at lw_m6 73 rfl) rfl
theorem q1402 : (Jvm.Cond.methodLink "RoseThrowLaw" (145 : Nat) ({ cls := "RoseThrow", name := "burn", desc := "()I" } : Jvm.MethodName)) ∈ lw_all := lw_g (lw_at lw_m6 77 rfl) rfl
theorem q1406 : (Jvm.Cond.methodLink "RoseThrowLaw" (149 : Nat) ({ cls := "RoseThrow", name := "fits", desc := "(I)I" } : Jvm.MethodName)) ∈ lw_all := lw_g (lw_at lw_m6 81 rfl) rfl
theorem q1410 : (Jvm.Cond.methodLink "RoseThrowLaw" (55 : Nat) ({ cls := "RoseThrow", name := "orders", desc := "()I" } : Jvm.MethodName)) ∈ lw_all := lw_g (lw_at lw_m6 85 rfl) rfl
theorem q1460 : (Jvm.Cond.methodLink "RoseThrowLaw" (153 : Nat) ({ cls := "RoseThrow", name := "weddings", desc := "(II)I" } : Jvm.MethodName)) ∈ lw_all := lw_g (lw_at lw_m6 135 rfl) rfl
theorem q1476 : (Jvm.Cond.methodLink "RoseThrowLaw" (157 : Nat) ({ cls := "RoseThrow", name := "drawn", desc := "(II)I" } : Jvm.MethodName)) ∈ lw_all := lw_g (lw_at lw_m6 151 rfl) rfl
theorem q1480 : (Jvm.Cond.methodLink "RoseThrowLaw" (169 : Nat) ({ cls := "RoseThrow", name := "count", desc := "(I)I" } : Jvm.MethodName)) ∈ lw_all := lw_g (lw_at lw_m6 155 rfl) rfl
theorem q1484 : (Jvm.Cond.methodLink "RoseThrowLaw" (173 : Nat) ({ cls := "RoseThrow", name := "status", desc := "()I" } : Jvm.MethodName)) ∈ lw_all := lw_g (lw_at lw_m6 159 rfl) rfl
theorem q1488 : (Jvm.Cond.classLink "RoseThrowLaw" (10 : Nat) "RoseThrowModel") ∈ lw_all := lw_g (lw_at lw_m6 163 rfl) rfl
theorem q1490 : (Jvm.Cond.methodLink "RoseThrowLaw" (12 : Nat) ({ cls := "RoseThrowModel", name := "<init>", desc := "()V" } : Jvm.MethodName)) ∈ lw_all := lw_g (lw_at lw_m6 165 rfl) rfl
theorem q1720 : (Jvm.Cond.methodLink "RoseThrowLaw" (90 : Nat) ({ cls := "RoseThrowModel", name := "undo", desc := "()I" } : Jvm.MethodName)) ∈ lw_all := lw_g (lw_at lw_m7 155 rfl) rfl
theorem q1736 : (Jvm.Cond.methodLink "RoseThrowLaw" (164 : Nat) ({ cls := "RoseThrowModel", name := "image", desc := "(I)I" } : Jvm.MethodName)) ∈ lw_all := lw_g (lw_at lw_m7 171 rfl) rfl
theorem q1743 : (Jvm.Cond.methodLink "RoseThrowLaw" (168 : Nat) ({ cls := "RoseThrowModel", name := "back", desc := "(I)I" } : Jvm.MethodName)) ∈ lw_all := lw_g (lw_at lw_m7 178 rfl) rfl
theorem q1747 : (Jvm.Cond.methodLink "RoseThrowLaw" (17 : Nat) ({ cls := "RoseThrowModel", name := "catcher", desc := "(IIII)I" } : Jvm.MethodName)) ∈ lw_all := lw_g (lw_at lw_m7 182 rfl) rfl
theorem q1813 : (Jvm.Cond.methodLink "RoseThrowLaw" (22 : Nat) ({ cls := "RoseThrowModel", name := "put", desc := "(III)I" } : Jvm.MethodName)) ∈ lw_all := lw_g (lw_at lw_m8 8 rfl) rfl
theorem q1821 : (Jvm.Cond.methodLink "RoseThrowLaw" (27 : Nat) ({ cls := "RoseThrowModel", name := "of", desc := "(II)I" } : Jvm.MethodName)) ∈ lw_all := lw_g (lw_at lw_m8 16 rfl) rfl
theorem q1826 : (Jvm.Cond.methodLink "RoseThrowLaw" (31 : Nat) ({ cls := "RoseThrowModel", name := "terms", desc := "(II)I" } : Jvm.MethodName)) ∈ lw_all := lw_g (lw_at lw_m8 21 rfl) rfl
theorem q1836 : (Jvm.Cond.methodLink "RoseThrowLaw" (46 : Nat) ({ cls := "RoseThrowModel", name := "row", desc := "()I" } : Jvm.MethodName)) ∈ lw_all := lw_g (lw_at lw_m8 31 rfl) rfl
theorem q1840 : (Jvm.Cond.methodLink "RoseThrowLaw" (50 : Nat) ({ cls := "RoseThrowModel", name := "rice", desc := "()I" } : Jvm.MethodName)) ∈ lw_all := lw_g (lw_at lw_m8 35 rfl) rfl
theorem q1844 : (Jvm.Cond.methodLink "RoseThrowLaw" (36 : Nat) ({ cls := "RoseThrowModel", name := "feed", desc := "(IIIII)I" } : Jvm.MethodName)) ∈ lw_all := lw_g (lw_at lw_m8 39 rfl) rfl
theorem q1852 : (Jvm.Cond.methodLink "RoseThrowLaw" (41 : Nat) ({ cls := "RoseThrowModel", name := "end", desc := "(I)I" } : Jvm.MethodName)) ∈ lw_all := lw_g (lw_at lw_m8 47 rfl) rfl
theorem q1856 : (Jvm.Cond.methodLink "RoseThrowLaw" (62 : Nat) ({ cls := "RoseThrowModel", name := "fault", desc := "()I" } : Jvm.MethodName)) ∈ lw_all := lw_g (lw_at lw_m8 51 rfl) rfl
theorem q1860 : (Jvm.Cond.methodLink "RoseThrowLaw" (54 : Nat) ({ cls := "RoseThrowModel", name := "law", desc := "()I" } : Jvm.MethodName)) ∈ lw_all := lw_g (lw_at lw_m8 55 rfl) rfl
theorem q1977 : (Jvm.Cond.methodLink "RoseThrowLaw" (70 : Nat) ({ cls := "RoseThrowModel", name := "force", desc := "(I)I" } : Jvm.MethodName)) ∈ lw_all := lw_g (lw_at lw_m8 172 rfl) rfl
theorem q1981 : (Jvm.Cond.methodLink "RoseThrowLaw" (74 : Nat) ({ cls := "RoseThrowModel", name := "asks", desc := "(III)I" } : Jvm.MethodName)) ∈ lw_all := lw_g (lw_at lw_m8 176 rfl) rfl
theorem q2000 : (Jvm.Cond.methodLink "RoseThrowLaw" (94 : Nat) ({ cls := "RoseThrowModel", name := "comes", desc := "(II)I" } : Jvm.MethodName)) ∈ lw_all := lw_g (lw_at lw_m8 195 rfl) rfl
theorem q2028 : (Jvm.Cond.methodLink "RoseThrowLaw" (99 : Nat) ({ cls := "RoseThrowModel", name := "has", desc := "(II)J" } : Jvm.MethodName)) ∈ lw_all := lw_g (lw_at lw_m8 223 rfl) rfl
theorem q2050 : (Jvm.Cond.methodLink "RoseThrowLaw" (103 : Nat) ({ cls := "RoseThrowModel", name := "stand", desc := "(II)J" } : Jvm.MethodName)) ∈ lw_all := lw_g (lw_at lw_m9 5 rfl) rfl
theorem q2066 : (Jvm.Cond.methodLink "RoseThrowLaw" (107 : Nat) ({ cls := "RoseThrowModel", name := "rests", desc := "(I)I" } : Jvm.MethodName)) ∈ lw_all := lw_g (lw_at lw_m9 21 rfl) rfl
theorem q2078 : (Jvm.Cond.methodLink "RoseThrowLaw" (111 : Nat) ({ cls := "RoseThrowModel", name := "friend", desc := "(II)J" } : Jvm.MethodName)) ∈ lw_all := lw_g (lw_at lw_m9 33 rfl) rfl
theorem q2098 : (Jvm.Cond.methodLink "RoseThrowLaw" (115 : Nat) ({ cls := "RoseThrowModel", name := "heard", desc := "(II)J" } : Jvm.MethodName)) ∈ lw_all := lw_g (lw_at lw_m9 53 rfl) rfl
theorem q2106 : (Jvm.Cond.methodLink "RoseThrowLaw" (119 : Nat) ({ cls := "RoseThrowModel", name := "feint", desc := "(II)J" } : Jvm.MethodName)) ∈ lw_all := lw_g (lw_at lw_m9 61 rfl) rfl
theorem q2110 : (Jvm.Cond.methodLink "RoseThrowLaw" (123 : Nat) ({ cls := "RoseThrowModel", name := "safest", desc := "(II)I" } : Jvm.MethodName)) ∈ lw_all := lw_g (lw_at lw_m9 65 rfl) rfl
theorem q2118 : (Jvm.Cond.methodLink "RoseThrowLaw" (128 : Nat) ({ cls := "RoseThrowModel", name := "crowd", desc := "(I)J" } : Jvm.MethodName)) ∈ lw_all := lw_g (lw_at lw_m9 73 rfl) rfl
theorem q2123 : (Jvm.Cond.methodLink "RoseThrowLaw" (132 : Nat) ({ cls := "RoseThrowModel", name := "again", desc := "(I)J" } : Jvm.MethodName)) ∈ lw_all := lw_g (lw_at lw_m9 78 rfl) rfl
theorem q2127 : (Jvm.Cond.methodLink "RoseThrowLaw" (136 : Nat) ({ cls := "RoseThrowModel", name := "truly", desc := "(I)J" } : Jvm.MethodName)) ∈ lw_all := lw_g (lw_at lw_m9 82 rfl) rfl
theorem q2132 : (Jvm.Cond.methodLink "RoseThrowLaw" (140 : Nat) ({ cls := "RoseThrowModel", name := "meant", desc := "(II)J" } : Jvm.MethodName)) ∈ lw_all := lw_g (lw_at lw_m9 87 rfl) rfl
theorem q2136 : (Jvm.Cond.methodLink "RoseThrowLaw" (144 : Nat) ({ cls := "RoseThrowModel", name := "film", desc := "(I)I" } : Jvm.MethodName)) ∈ lw_all := lw_g (lw_at lw_m9 91 rfl) rfl
theorem q2140 : (Jvm.Cond.methodLink "RoseThrowLaw" (148 : Nat) ({ cls := "RoseThrowModel", name := "burn", desc := "()I" } : Jvm.MethodName)) ∈ lw_all := lw_g (lw_at lw_m9 95 rfl) rfl
theorem q2144 : (Jvm.Cond.methodLink "RoseThrowLaw" (152 : Nat) ({ cls := "RoseThrowModel", name := "fits", desc := "(I)I" } : Jvm.MethodName)) ∈ lw_all := lw_g (lw_at lw_m9 99 rfl) rfl
theorem q2148 : (Jvm.Cond.methodLink "RoseThrowLaw" (78 : Nat) ({ cls := "RoseThrowModel", name := "go", desc := "(II)I" } : Jvm.MethodName)) ∈ lw_all := lw_g (lw_at lw_m9 103 rfl) rfl
theorem q2160 : (Jvm.Cond.methodLink "RoseThrowLaw" (82 : Nat) ({ cls := "RoseThrowModel", name := "believe", desc := "(II)I" } : Jvm.MethodName)) ∈ lw_all := lw_g (lw_at lw_m9 115 rfl) rfl
theorem q2168 : (Jvm.Cond.methodLink "RoseThrowLaw" (86 : Nat) ({ cls := "RoseThrowModel", name := "rush", desc := "()I" } : Jvm.MethodName)) ∈ lw_all := lw_g (lw_at lw_m9 123 rfl) rfl
theorem q2180 : (Jvm.Cond.methodLink "RoseThrowLaw" (58 : Nat) ({ cls := "RoseThrowModel", name := "orders", desc := "()I" } : Jvm.MethodName)) ∈ lw_all := lw_g (lw_at lw_m9 135 rfl) rfl
theorem q2209 : (Jvm.Cond.methodLink "RoseThrowLaw" (66 : Nat) ({ cls := "RoseThrowModel", name := "stopped", desc := "()I" } : Jvm.MethodName)) ∈ lw_all := lw_g (lw_at lw_m9 164 rfl) rfl
theorem q2213 : (Jvm.Cond.methodLink "RoseThrowLaw" (156 : Nat) ({ cls := "RoseThrowModel", name := "weddings", desc := "(II)I" } : Jvm.MethodName)) ∈ lw_all := lw_g (lw_at lw_m9 168 rfl) rfl
theorem q2237 : (Jvm.Cond.methodLink "RoseThrowLaw" (160 : Nat) ({ cls := "RoseThrowModel", name := "drawn", desc := "(II)I" } : Jvm.MethodName)) ∈ lw_all := lw_g (lw_at lw_m9 192 rfl) rfl
theorem q2241 : (Jvm.Cond.methodLink "RoseThrowLaw" (172 : Nat) ({ cls := "RoseThrowModel", name := "count", desc := "(I)I" } : Jvm.MethodName)) ∈ lw_all := lw_g (lw_at lw_m9 196 rfl) rfl
theorem q2247 : (Jvm.Cond.methodLink "RoseThrowLaw" (176 : Nat) ({ cls := "RoseThrowModel", name := "status", desc := "()I" } : Jvm.MethodName)) ∈ lw_all := lw_g (lw_at lw_m9 202 rfl) rfl
theorem q157 : (Jvm.Cond.initialized "java/lang/System") ∈ lw_all := lw_g (lw_at lw_m1 32 rfl) rfl
set_option maxRecDepth 100000
theorem q460 : (Jvm.Cond.static ({ cls := "java/lang/System", name := "arraycopy", desc := "(Ljava/lang/Object;ILjava/lang/Object;II)V" } : Jvm.MethodName)) ∈ lw_all := lw_g (lw_at lw_m2 95 rfl) rfl
theorem q461 : (Jvm.Cond.native ({ cls := "java/lang/System", name := "arraycopy", desc := "(Ljava/lang/Object;ILjava/lang/Object;II)V" } : Jvm.MethodName)) ∈ lw_all := lw_g (lw_at lw_m2 96 rfl) rfl
theorem q472 : (Jvm.Cond.interfaceMethod "java/util/Collection" "java/util/Collection" "toArray" "()[Ljava/lang/Object;") ∈ lw_tbl := lw_at lw_m2 107 rfl
set_option maxRecDepth 100000
theorem q473 : (Jvm.Cond.declares ({ cls := "java/util/Collection", name := "toArray", desc := "()[Ljava/lang/Object;" } : Jvm.MethodName)) ∈ lw_tbl := lw_at lw_m2 108 rfl
theorem q2292 : (Jvm.Cond.castable "[B" "java/lang/Object") ∈ lw_tbl := lw_at lw_m10 7 rfl
set_option maxRecDepth 100000
theorem q2290 : (Jvm.Cond.castable "[I" "java/lang/Object") ∈ lw_tbl := lw_at lw_m10 5 rfl
set_option maxRecDepth 100000
theorem q2293 : (Jvm.Cond.castable "[J" "java/lang/Object") ∈ lw_tbl := lw_at lw_m10 8 rfl
set_option maxRecDepth 100000
theorem q2294 : (Jvm.Cond.castable "[LRoseThrow$Flight;" "java/lang/Object") ∈ lw_tbl := lw_at lw_m10 9 rfl
set_option maxRecDepth 100000
theorem q2291 : (Jvm.Cond.castable "[LRoseThrow$State;" "java/lang/Object") ∈ lw_tbl := lw_at lw_m10 6 rfl
set_option maxRecDepth 100000
theorem q2286 : (Jvm.Cond.sameMethod "[Ljava/lang/Object;" "java/lang/Object" "getClass" "()Ljava/lang/Class;") ∈ lw_all := lw_g (lw_at lw_m10 1 rfl) rfl
set_option maxRecDepth 100000
theorem q2287 : (Jvm.Cond.selects "[Ljava/lang/Object;" ({ cls := "java/lang/Object", name := "getClass", desc := "()Ljava/lang/Class;" } : Jvm.MethodName) ({ cls := "java/lang/Object", name := "getClass", desc := "()Ljava/lang/Class;" } : Jvm.MethodName)) ∈ lw_all := lw_g (lw_at lw_m10 2 rfl) rfl
theorem q2289 : (Jvm.Cond.castable "[Ljava/lang/Object;" "java/lang/Object") ∈ lw_tbl := lw_at lw_m10 4 rfl
theorem q2295 : (Jvm.Cond.castable "[Z" "java/lang/Object") ∈ lw_tbl := lw_at lw_m10 10 rfl
set_option maxRecDepth 100000
