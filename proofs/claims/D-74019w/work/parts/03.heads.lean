set_option maxRecDepth 100000
def RX0 : String := "EarthMeshLaw"
abbrev cX0_mesh : ByteArray := method_3_code
def yX0_mesh : MethodName := ⟨RX0, "mesh", "(LEarthMesh;I[J)I"⟩
abbrev cX0_count : ByteArray := method_4_code
def yX0_count : MethodName := ⟨RX0, "count", "(LEarthMesh;I[J)I"⟩
abbrev cX0_node : ByteArray := method_5_code
def yX0_node : MethodName := ⟨RX0, "node", "(LEarthMesh;II[J)I"⟩
abbrev cX0_at : ByteArray := method_6_code
def yX0_at : MethodName := ⟨RX0, "at", "(LEarthMesh;IIZ[J)I"⟩
abbrev cX0_bits : ByteArray := method_7_code
def yX0_bits : MethodName := ⟨RX0, "bits", "(LEarthMesh;IZ[J)I"⟩
abbrev cX0_ground : ByteArray := method_8_code
def yX0_ground : MethodName := ⟨RX0, "ground", "(LEarthMesh;IIZ[J)I"⟩
abbrev cX0_worst : ByteArray := method_9_code
def yX0_worst : MethodName := ⟨RX0, "worst", "(LEarthMesh;I[J)I"⟩
abbrev cX0_box : ByteArray := method_10_code
def yX0_box : MethodName := ⟨RX0, "box", "(LEarthMesh;II[J)I"⟩
abbrev cX0_reach : ByteArray := method_11_code
def yX0_reach : MethodName := ⟨RX0, "reach", "(LEarthMesh;I[J)I"⟩
abbrev cX0_walk : ByteArray := method_12_code
def yX0_walk : MethodName := ⟨RX0, "walk", "(LEarthMesh;IIZ[J)I"⟩
abbrev cX0_walked : ByteArray := method_13_code
def yX0_walked : MethodName := ⟨RX0, "walked", "(LEarthMesh;II[J)I"⟩
abbrev cX0_share : ByteArray := method_14_code
def yX0_share : MethodName := ⟨RX0, "share", "(LEarthMesh;I[J)I"⟩
abbrev cX0_cascade : ByteArray := method_15_code
def yX0_cascade : MethodName := ⟨RX0, "cascade", "(LEarthMesh;I[J)I"⟩
abbrev cX0_sweep : ByteArray := method_16_code
def yX0_sweep : MethodName := ⟨RX0, "sweep", "(LEarthMesh;ZI[J)I"⟩
abbrev cX0_free : ByteArray := method_17_code
def yX0_free : MethodName := ⟨RX0, "free", "(LEarthMesh;I[J)I"⟩
abbrev cX0_between : ByteArray := method_18_code
def yX0_between : MethodName := ⟨RX0, "between", "(LEarthMesh;IIZ[J)I"⟩
abbrev cX0_seen : ByteArray := method_19_code
def yX0_seen : MethodName := ⟨RX0, "seen", "(LEarthMesh;IIIZ[J)I"⟩
abbrev cX0_cheapest : ByteArray := method_20_code
def yX0_cheapest : MethodName := ⟨RX0, "cheapest", "(LEarthMesh;I[J)I"⟩
abbrev cX0_stored : ByteArray := method_21_code
def yX0_stored : MethodName := ⟨RX0, "stored", "(LEarthMesh;II[J)I"⟩
theorem q129 : (Jvm.Cond.initialized "EarthMeshLaw") ∈ lw_all := lw_g (lw_at lw_m1 0 rfl) rfl
theorem q166 : (Jvm.Cond.classLink "EarthMeshLaw" (8 : Nat) "EarthMesh") ∈ lw_all := lw_g (lw_at lw_m1 37 rfl) rfl
theorem q168 : (Jvm.Cond.methodLink "EarthMeshLaw" (78 : Nat) ({ cls := "EarthMesh", name := "<init>", desc := "()V" } : Jvm.MethodName)) ∈ lw_all := lw_g (lw_at lw_m1 39 rfl) rfl
theorem q416 : (Jvm.Cond.methodLink "EarthMeshLaw" (82 : Nat) ({ cls := "EarthMesh", name := "feed", desc := "(IIIII)I" } : Jvm.MethodName)) ∈ lw_all := lw_g (lw_at lw_m2 47 rfl) rfl
theorem q428 : (Jvm.Cond.methodLink "EarthMeshLaw" (97 : Nat) ({ cls := "EarthMesh", name := "fault", desc := "()I" } : Jvm.MethodName)) ∈ lw_all := lw_g (lw_at lw_m2 59 rfl) rfl
theorem q432 : (Jvm.Cond.methodLink "EarthMeshLaw" (157 : Nat) ({ cls := "EarthMesh", name := "tell", desc := "(III)I" } : Jvm.MethodName)) ∈ lw_all := lw_g (lw_at lw_m2 63 rfl) rfl
theorem q451 : (Jvm.Cond.methodLink "EarthMeshLaw" (162 : Nat) ({ cls := "EarthMesh", name := "comes", desc := "(II)I" } : Jvm.MethodName)) ∈ lw_all := lw_g (lw_at lw_m2 82 rfl) rfl
theorem q455 : (Jvm.Cond.methodLink "EarthMeshLaw" (166 : Nat) ({ cls := "EarthMesh", name := "put", desc := "(IZI)I" } : Jvm.MethodName)) ∈ lw_all := lw_g (lw_at lw_m2 86 rfl) rfl
theorem q566 : (Jvm.Cond.methodLink "EarthMeshLaw" (174 : Nat) ({ cls := "EarthMesh", name := "build", desc := "(IIIZ)I" } : Jvm.MethodName)) ∈ lw_all := lw_g (lw_at lw_m2 197 rfl) rfl
theorem q578 : (Jvm.Cond.methodLink "EarthMeshLaw" (87 : Nat) ({ cls := "EarthMeshLaw", name := "mesh", desc := "(LEarthMesh;I[J)I" } : Jvm.MethodName)) ∈ lw_all := lw_g (lw_at lw_m2 209 rfl) rfl
theorem q579 : (Jvm.Cond.static ({ cls := "EarthMeshLaw", name := "mesh", desc := "(LEarthMesh;I[J)I" } : Jvm.MethodName)) ∈ lw_all := lw_g (lw_at lw_m2 210 rfl) rfl
theorem q580 : (Jvm.Cond.codeWith ({ cls := "EarthMeshLaw", name := "mesh", desc := "(LEarthMesh;I[J)I" } : Jvm.MethodName) method_3_code (4 : Nat) (Option.some Jvm.ClassFile.FieldType.int) [((0 : Nat), (9 : Nat), (12 : Nat), (13 : Nat))]) ∈ lw_all := lw_g (lw_at lw_m2 211 rfl) rfl
theorem q581 : (Jvm.Cond.classLink "EarthMeshLaw" (13 : Nat) "java/lang/IllegalArgumentException") ∈ lw_all := lw_g (lw_at lw_m2 212 rfl) rfl
theorem q582 : (Jvm.Cond.methodLink "EarthMeshLaw" (7 : Nat) ({ cls := "EarthMesh", name := "mesh", desc := "(I)I" } : Jvm.MethodName)) ∈ lw_all := lw_g (lw_at lw_m2 213 rfl) rfl
theorem q1074 : (Jvm.Cond.methodLink "EarthMeshLaw" (101 : Nat) ({ cls := "EarthMeshLaw", name := "count", desc := "(LEarthMesh;I[J)I" } : Jvm.MethodName)) ∈ lw_all := lw_g (lw_at lw_m4 225 rfl) rfl
theorem q1075 : (Jvm.Cond.static ({ cls := "EarthMeshLaw", name := "count", desc := "(LEarthMesh;I[J)I" } : Jvm.MethodName)) ∈ lw_all := lw_g (lw_at lw_m4 226 rfl) rfl
theorem q1076 : (Jvm.Cond.codeWith ({ cls := "EarthMeshLaw", name := "count", desc := "(LEarthMesh;I[J)I" } : Jvm.MethodName) method_4_code (4 : Nat) (Option.some Jvm.ClassFile.FieldType.int) [((0 : Nat), (9 : Nat), (12 : Nat), (18 : Nat))]) ∈ lw_all := lw_g (lw_at lw_m4 227 rfl) rfl
theorem q1077 : (Jvm.Cond.classLink "EarthMeshLaw" (18 : Nat) "java/util/NoSuchElementException") ∈ lw_all := lw_g (lw_at lw_m4 228 rfl) rfl
theorem q1078 : (Jvm.Cond.methodLink "EarthMeshLaw" (15 : Nat) ({ cls := "EarthMesh", name := "count", desc := "(I)I" } : Jvm.MethodName)) ∈ lw_all := lw_g (lw_at lw_m4 229 rfl) rfl
theorem q1308 : (Jvm.Cond.methodLink "EarthMeshLaw" (104 : Nat) ({ cls := "EarthMeshLaw", name := "node", desc := "(LEarthMesh;II[J)I" } : Jvm.MethodName)) ∈ lw_all := lw_g (lw_at lw_m5 219 rfl) rfl
theorem q1309 : (Jvm.Cond.static ({ cls := "EarthMeshLaw", name := "node", desc := "(LEarthMesh;II[J)I" } : Jvm.MethodName)) ∈ lw_all := lw_g (lw_at lw_m5 220 rfl) rfl
theorem q1310 : (Jvm.Cond.codeWith ({ cls := "EarthMeshLaw", name := "node", desc := "(LEarthMesh;II[J)I" } : Jvm.MethodName) method_5_code (5 : Nat) (Option.some Jvm.ClassFile.FieldType.int) [((0 : Nat), (10 : Nat), (13 : Nat), (18 : Nat))]) ∈ lw_all := lw_g (lw_at lw_m5 221 rfl) rfl
theorem q1311 : (Jvm.Cond.methodLink "EarthMeshLaw" (20 : Nat) ({ cls := "EarthMesh", name := "node", desc := "(II)I" } : Jvm.MethodName)) ∈ lw_all := lw_g (lw_at lw_m5 222 rfl) rfl
theorem q1315 : (Jvm.Cond.methodLink "EarthMeshLaw" (108 : Nat) ({ cls := "EarthMeshLaw", name := "at", desc := "(LEarthMesh;IIZ[J)I" } : Jvm.MethodName)) ∈ lw_all := lw_g (lw_at lw_m5 226 rfl) rfl
theorem q1316 : (Jvm.Cond.static ({ cls := "EarthMeshLaw", name := "at", desc := "(LEarthMesh;IIZ[J)I" } : Jvm.MethodName)) ∈ lw_all := lw_g (lw_at lw_m5 227 rfl) rfl
theorem q1317 : (Jvm.Cond.codeWith ({ cls := "EarthMeshLaw", name := "at", desc := "(LEarthMesh;IIZ[J)I" } : Jvm.MethodName) method_6_code (6 : Nat) (Option.some Jvm.ClassFile.FieldType.int) [((0 : Nat), (11 : Nat), (14 : Nat), (18 : Nat)), ((0 : Nat), (11 : Nat), (18 : Nat), (28 : Nat))]) ∈ lw_all := lw_g (lw_at lw_m5 228 rfl) rfl
theorem q1318 : (Jvm.Cond.classLink "EarthMeshLaw" (28 : Nat) "java/lang/IllegalStateException") ∈ lw_all := lw_g (lw_at lw_m5 229 rfl) rfl
theorem q1319 : (Jvm.Cond.methodLink "EarthMeshLaw" (24 : Nat) ({ cls := "EarthMesh", name := "at", desc := "(IIZ)J" } : Jvm.MethodName)) ∈ lw_all := lw_g (lw_at lw_m5 230 rfl) rfl
theorem q1355 : (Jvm.Cond.methodLink "EarthMeshLaw" (112 : Nat) ({ cls := "EarthMeshLaw", name := "bits", desc := "(LEarthMesh;IZ[J)I" } : Jvm.MethodName)) ∈ lw_all := lw_g (lw_at lw_m6 26 rfl) rfl
theorem q1356 : (Jvm.Cond.static ({ cls := "EarthMeshLaw", name := "bits", desc := "(LEarthMesh;IZ[J)I" } : Jvm.MethodName)) ∈ lw_all := lw_g (lw_at lw_m6 27 rfl) rfl
theorem q1357 : (Jvm.Cond.codeWith ({ cls := "EarthMeshLaw", name := "bits", desc := "(LEarthMesh;IZ[J)I" } : Jvm.MethodName) method_7_code (5 : Nat) (Option.some Jvm.ClassFile.FieldType.int) [((0 : Nat), (9 : Nat), (12 : Nat), (18 : Nat)), ((0 : Nat), (9 : Nat), (16 : Nat), (28 : Nat))]) ∈ lw_all := lw_g (lw_at lw_m6 28 rfl) rfl
theorem q1358 : (Jvm.Cond.methodLink "EarthMeshLaw" (30 : Nat) ({ cls := "EarthMesh", name := "bits", desc := "(IZ)J" } : Jvm.MethodName)) ∈ lw_all := lw_g (lw_at lw_m6 29 rfl) rfl
theorem q1382 : (Jvm.Cond.methodLink "EarthMeshLaw" (116 : Nat) ({ cls := "EarthMeshLaw", name := "ground", desc := "(LEarthMesh;IIZ[J)I" } : Jvm.MethodName)) ∈ lw_all := lw_g (lw_at lw_m6 53 rfl) rfl
theorem q1383 : (Jvm.Cond.static ({ cls := "EarthMeshLaw", name := "ground", desc := "(LEarthMesh;IIZ[J)I" } : Jvm.MethodName)) ∈ lw_all := lw_g (lw_at lw_m6 54 rfl) rfl
theorem q1384 : (Jvm.Cond.codeWith ({ cls := "EarthMeshLaw", name := "ground", desc := "(LEarthMesh;IIZ[J)I" } : Jvm.MethodName) method_8_code (6 : Nat) (Option.some Jvm.ClassFile.FieldType.int) [((0 : Nat), (11 : Nat), (14 : Nat), (18 : Nat)), ((0 : Nat), (11 : Nat), (18 : Nat), (28 : Nat))]) ∈ lw_all := lw_g (lw_at lw_m6 55 rfl) rfl
theorem q1385 : (Jvm.Cond.methodLink "EarthMeshLaw" (34 : Nat) ({ cls := "EarthMesh", name := "ground", desc := "(IIZ)J" } : Jvm.MethodName)) ∈ lw_all := lw_g (lw_at lw_m6 56 rfl) rfl
theorem q1390 : (Jvm.Cond.methodLink "EarthMeshLaw" (119 : Nat) ({ cls := "EarthMeshLaw", name := "worst", desc := "(LEarthMesh;I[J)I" } : Jvm.MethodName)) ∈ lw_all := lw_g (lw_at lw_m6 61 rfl) rfl
theorem q1391 : (Jvm.Cond.static ({ cls := "EarthMeshLaw", name := "worst", desc := "(LEarthMesh;I[J)I" } : Jvm.MethodName)) ∈ lw_all := lw_g (lw_at lw_m6 62 rfl) rfl
theorem q1392 : (Jvm.Cond.codeWith ({ cls := "EarthMeshLaw", name := "worst", desc := "(LEarthMesh;I[J)I" } : Jvm.MethodName) method_9_code (4 : Nat) (Option.some Jvm.ClassFile.FieldType.int) [((0 : Nat), (9 : Nat), (12 : Nat), (18 : Nat)), ((0 : Nat), (9 : Nat), (15 : Nat), (28 : Nat))]) ∈ lw_all := lw_g (lw_at lw_m6 63 rfl) rfl
theorem q1393 : (Jvm.Cond.methodLink "EarthMeshLaw" (37 : Nat) ({ cls := "EarthMesh", name := "worst", desc := "(I)I" } : Jvm.MethodName)) ∈ lw_all := lw_g (lw_at lw_m6 64 rfl) rfl
theorem q1397 : (Jvm.Cond.methodLink "EarthMeshLaw" (122 : Nat) ({ cls := "EarthMeshLaw", name := "box", desc := "(LEarthMesh;II[J)I" } : Jvm.MethodName)) ∈ lw_all := lw_g (lw_at lw_m6 68 rfl) rfl
theorem q1398 : (Jvm.Cond.static ({ cls := "EarthMeshLaw", name := "box", desc := "(LEarthMesh;II[J)I" } : Jvm.MethodName)) ∈ lw_all := lw_g (lw_at lw_m6 69 rfl) rfl
theorem q1399 : (Jvm.Cond.codeWith ({ cls := "EarthMeshLaw", name := "box", desc := "(LEarthMesh;II[J)I" } : Jvm.MethodName) method_10_code (5 : Nat) (Option.some Jvm.ClassFile.FieldType.int) [((0 : Nat), (10 : Nat), (13 : Nat), (18 : Nat)), ((0 : Nat), (10 : Nat), (17 : Nat), (13 : Nat)), ((0 : Nat), (10 : Nat), (21 : Nat), (28 : Nat))]) ∈ lw_all := lw_g (lw_at lw_m6 70 rfl) rfl
theorem q1400 : (Jvm.Cond.methodLink "EarthMeshLaw" (40 : Nat) ({ cls := "EarthMesh", name := "box", desc := "(II)I" } : Jvm.MethodName)) ∈ lw_all := lw_g (lw_at lw_m6 71 rfl) rfl
theorem q1419 : (Jvm.Cond.methodLink "EarthMeshLaw" (125 : Nat) ({ cls := "EarthMeshLaw", name := "reach", desc := "(LEarthMesh;I[J)I" } : Jvm.MethodName)) ∈ lw_all := lw_g (lw_at lw_m6 90 rfl) rfl
theorem q1420 : (Jvm.Cond.static ({ cls := "EarthMeshLaw", name := "reach", desc := "(LEarthMesh;I[J)I" } : Jvm.MethodName)) ∈ lw_all := lw_g (lw_at lw_m6 91 rfl) rfl
theorem q1421 : (Jvm.Cond.codeWith ({ cls := "EarthMeshLaw", name := "reach", desc := "(LEarthMesh;I[J)I" } : Jvm.MethodName) method_11_code (4 : Nat) (Option.some Jvm.ClassFile.FieldType.int) [((0 : Nat), (9 : Nat), (12 : Nat), (13 : Nat)), ((0 : Nat), (9 : Nat), (15 : Nat), (28 : Nat))]) ∈ lw_all := lw_g (lw_at lw_m6 92 rfl) rfl
theorem q1422 : (Jvm.Cond.methodLink "EarthMeshLaw" (43 : Nat) ({ cls := "EarthMesh", name := "reach", desc := "(I)I" } : Jvm.MethodName)) ∈ lw_all := lw_g (lw_at lw_m6 93 rfl) rfl
theorem q1426 : (Jvm.Cond.methodLink "EarthMeshLaw" (128 : Nat) ({ cls := "EarthMeshLaw", name := "walk", desc := "(LEarthMesh;IIZ[J)I" } : Jvm.MethodName)) ∈ lw_all := lw_g (lw_at lw_m6 97 rfl) rfl
theorem q1427 : (Jvm.Cond.static ({ cls := "EarthMeshLaw", name := "walk", desc := "(LEarthMesh;IIZ[J)I" } : Jvm.MethodName)) ∈ lw_all := lw_g (lw_at lw_m6 98 rfl) rfl
theorem q1428 : (Jvm.Cond.codeWith ({ cls := "EarthMeshLaw", name := "walk", desc := "(LEarthMesh;IIZ[J)I" } : Jvm.MethodName) method_12_code (6 : Nat) (Option.some Jvm.ClassFile.FieldType.int) [((0 : Nat), (11 : Nat), (14 : Nat), (18 : Nat)), ((0 : Nat), (11 : Nat), (18 : Nat), (28 : Nat))]) ∈ lw_all := lw_g (lw_at lw_m6 99 rfl) rfl
theorem q1429 : (Jvm.Cond.methodLink "EarthMeshLaw" (46 : Nat) ({ cls := "EarthMesh", name := "walk", desc := "(IIZ)J" } : Jvm.MethodName)) ∈ lw_all := lw_g (lw_at lw_m6 100 rfl) rfl
theorem q1467 : (Jvm.Cond.methodLink "EarthMeshLaw" (131 : Nat) ({ cls := "EarthMeshLaw", name := "walked", desc := "(LEarthMesh;II[J)I" } : Jvm.MethodName)) ∈ lw_all := lw_g (lw_at lw_m6 138 rfl) rfl
theorem q1468 : (Jvm.Cond.static ({ cls := "EarthMeshLaw", name := "walked", desc := "(LEarthMesh;II[J)I" } : Jvm.MethodName)) ∈ lw_all := lw_g (lw_at lw_m6 139 rfl) rfl
theorem q1469 : (Jvm.Cond.codeWith ({ cls := "EarthMeshLaw", name := "walked", desc := "(LEarthMesh;II[J)I" } : Jvm.MethodName) method_13_code (5 : Nat) (Option.some Jvm.ClassFile.FieldType.int) [((0 : Nat), (10 : Nat), (13 : Nat), (18 : Nat)), ((0 : Nat), (10 : Nat), (17 : Nat), (28 : Nat))]) ∈ lw_all := lw_g (lw_at lw_m6 140 rfl) rfl
theorem q1470 : (Jvm.Cond.methodLink "EarthMeshLaw" (49 : Nat) ({ cls := "EarthMesh", name := "walked", desc := "(II)I" } : Jvm.MethodName)) ∈ lw_all := lw_g (lw_at lw_m6 141 rfl) rfl
theorem q1476 : (Jvm.Cond.methodLink "EarthMeshLaw" (134 : Nat) ({ cls := "EarthMeshLaw", name := "share", desc := "(LEarthMesh;I[J)I" } : Jvm.MethodName)) ∈ lw_all := lw_g (lw_at lw_m6 147 rfl) rfl
theorem q1477 : (Jvm.Cond.static ({ cls := "EarthMeshLaw", name := "share", desc := "(LEarthMesh;I[J)I" } : Jvm.MethodName)) ∈ lw_all := lw_g (lw_at lw_m6 148 rfl) rfl
theorem q1478 : (Jvm.Cond.codeWith ({ cls := "EarthMeshLaw", name := "share", desc := "(LEarthMesh;I[J)I" } : Jvm.MethodName) method_14_code (4 : Nat) (Option.some Jvm.ClassFile.FieldType.int) [((0 : Nat), (9 : Nat), (12 : Nat), (18 : Nat)), ((0 : Nat), (9 : Nat), (15 : Nat), (28 : Nat))]) ∈ lw_all := lw_g (lw_at lw_m6 149 rfl) rfl
theorem q1479 : (Jvm.Cond.methodLink "EarthMeshLaw" (52 : Nat) ({ cls := "EarthMesh", name := "share", desc := "(I)I" } : Jvm.MethodName)) ∈ lw_all := lw_g (lw_at lw_m6 150 rfl) rfl
theorem q1487 : (Jvm.Cond.methodLink "EarthMeshLaw" (137 : Nat) ({ cls := "EarthMeshLaw", name := "cascade", desc := "(LEarthMesh;I[J)I" } : Jvm.MethodName)) ∈ lw_all := lw_g (lw_at lw_m6 158 rfl) rfl
theorem q1488 : (Jvm.Cond.static ({ cls := "EarthMeshLaw", name := "cascade", desc := "(LEarthMesh;I[J)I" } : Jvm.MethodName)) ∈ lw_all := lw_g (lw_at lw_m6 159 rfl) rfl
theorem q1489 : (Jvm.Cond.codeWith ({ cls := "EarthMeshLaw", name := "cascade", desc := "(LEarthMesh;I[J)I" } : Jvm.MethodName) method_15_code (4 : Nat) (Option.some Jvm.ClassFile.FieldType.int) [((0 : Nat), (9 : Nat), (12 : Nat), (18 : Nat))]) ∈ lw_all := lw_g (lw_at lw_m6 160 rfl) rfl
theorem q1490 : (Jvm.Cond.methodLink "EarthMeshLaw" (55 : Nat) ({ cls := "EarthMesh", name := "cascade", desc := "(I)I" } : Jvm.MethodName)) ∈ lw_all := lw_g (lw_at lw_m6 161 rfl) rfl
theorem q1506 : (Jvm.Cond.methodLink "EarthMeshLaw" (140 : Nat) ({ cls := "EarthMeshLaw", name := "sweep", desc := "(LEarthMesh;ZI[J)I" } : Jvm.MethodName)) ∈ lw_all := lw_g (lw_at lw_m6 177 rfl) rfl
theorem q1507 : (Jvm.Cond.static ({ cls := "EarthMeshLaw", name := "sweep", desc := "(LEarthMesh;ZI[J)I" } : Jvm.MethodName)) ∈ lw_all := lw_g (lw_at lw_m6 178 rfl) rfl
theorem q1508 : (Jvm.Cond.codeWith ({ cls := "EarthMeshLaw", name := "sweep", desc := "(LEarthMesh;ZI[J)I" } : Jvm.MethodName) method_16_code (5 : Nat) (Option.some Jvm.ClassFile.FieldType.int) [((0 : Nat), (9 : Nat), (12 : Nat), (18 : Nat))]) ∈ lw_all := lw_g (lw_at lw_m6 179 rfl) rfl
theorem q1509 : (Jvm.Cond.methodLink "EarthMeshLaw" (58 : Nat) ({ cls := "EarthMesh", name := "sweep", desc := "(ZI)J" } : Jvm.MethodName)) ∈ lw_all := lw_g (lw_at lw_m6 180 rfl) rfl
theorem q1521 : (Jvm.Cond.methodLink "EarthMeshLaw" (144 : Nat) ({ cls := "EarthMeshLaw", name := "free", desc := "(LEarthMesh;I[J)I" } : Jvm.MethodName)) ∈ lw_all := lw_g (lw_at lw_m6 192 rfl) rfl
theorem q1522 : (Jvm.Cond.static ({ cls := "EarthMeshLaw", name := "free", desc := "(LEarthMesh;I[J)I" } : Jvm.MethodName)) ∈ lw_all := lw_g (lw_at lw_m6 193 rfl) rfl
theorem q1523 : (Jvm.Cond.codeWith ({ cls := "EarthMeshLaw", name := "free", desc := "(LEarthMesh;I[J)I" } : Jvm.MethodName) method_17_code (4 : Nat) (Option.some Jvm.ClassFile.FieldType.int) [((0 : Nat), (9 : Nat), (12 : Nat), (13 : Nat)), ((0 : Nat), (9 : Nat), (15 : Nat), (28 : Nat))]) ∈ lw_all := lw_g (lw_at lw_m6 194 rfl) rfl
theorem q1524 : (Jvm.Cond.methodLink "EarthMeshLaw" (62 : Nat) ({ cls := "EarthMesh", name := "free", desc := "(I)I" } : Jvm.MethodName)) ∈ lw_all := lw_g (lw_at lw_m6 195 rfl) rfl
theorem q1536 : (Jvm.Cond.methodLink "EarthMeshLaw" (147 : Nat) ({ cls := "EarthMeshLaw", name := "between", desc := "(LEarthMesh;IIZ[J)I" } : Jvm.MethodName)) ∈ lw_all := lw_g (lw_at lw_m6 207 rfl) rfl
theorem q1537 : (Jvm.Cond.static ({ cls := "EarthMeshLaw", name := "between", desc := "(LEarthMesh;IIZ[J)I" } : Jvm.MethodName)) ∈ lw_all := lw_g (lw_at lw_m6 208 rfl) rfl
theorem q1538 : (Jvm.Cond.codeWith ({ cls := "EarthMeshLaw", name := "between", desc := "(LEarthMesh;IIZ[J)I" } : Jvm.MethodName) method_18_code (6 : Nat) (Option.some Jvm.ClassFile.FieldType.int) [((0 : Nat), (11 : Nat), (14 : Nat), (18 : Nat)), ((0 : Nat), (11 : Nat), (18 : Nat), (28 : Nat))]) ∈ lw_all := lw_g (lw_at lw_m6 209 rfl) rfl
theorem q1539 : (Jvm.Cond.methodLink "EarthMeshLaw" (65 : Nat) ({ cls := "EarthMesh", name := "between", desc := "(IIZ)J" } : Jvm.MethodName)) ∈ lw_all := lw_g (lw_at lw_m6 210 rfl) rfl
theorem q1544 : (Jvm.Cond.methodLink "EarthMeshLaw" (150 : Nat) ({ cls := "EarthMeshLaw", name := "seen", desc := "(LEarthMesh;IIIZ[J)I" } : Jvm.MethodName)) ∈ lw_all := lw_g (lw_at lw_m6 215 rfl) rfl
theorem q1545 : (Jvm.Cond.static ({ cls := "EarthMeshLaw", name := "seen", desc := "(LEarthMesh;IIIZ[J)I" } : Jvm.MethodName)) ∈ lw_all := lw_g (lw_at lw_m6 216 rfl) rfl
theorem q1546 : (Jvm.Cond.codeWith ({ cls := "EarthMeshLaw", name := "seen", desc := "(LEarthMesh;IIIZ[J)I" } : Jvm.MethodName) method_19_code (7 : Nat) (Option.some Jvm.ClassFile.FieldType.int) [((0 : Nat), (13 : Nat), (16 : Nat), (13 : Nat)), ((0 : Nat), (13 : Nat), (20 : Nat), (18 : Nat)), ((0 : Nat), (13 : Nat), (24 : Nat), (28 : Nat))]) ∈ lw_all := lw_g (lw_at lw_m6 217 rfl) rfl
theorem q1547 : (Jvm.Cond.methodLink "EarthMeshLaw" (68 : Nat) ({ cls := "EarthMesh", name := "seen", desc := "(IIIZ)J" } : Jvm.MethodName)) ∈ lw_all := lw_g (lw_at lw_m6 218 rfl) rfl
theorem q1563 : (Jvm.Cond.methodLink "EarthMeshLaw" (154 : Nat) ({ cls := "EarthMeshLaw", name := "cheapest", desc := "(LEarthMesh;I[J)I" } : Jvm.MethodName)) ∈ lw_all := lw_g (lw_at lw_m6 234 rfl) rfl
theorem q1564 : (Jvm.Cond.static ({ cls := "EarthMeshLaw", name := "cheapest", desc := "(LEarthMesh;I[J)I" } : Jvm.MethodName)) ∈ lw_all := lw_g (lw_at lw_m6 235 rfl) rfl
theorem q1565 : (Jvm.Cond.codeWith ({ cls := "EarthMeshLaw", name := "cheapest", desc := "(LEarthMesh;I[J)I" } : Jvm.MethodName) method_20_code (4 : Nat) (Option.some Jvm.ClassFile.FieldType.int) [((0 : Nat), (9 : Nat), (12 : Nat), (18 : Nat))]) ∈ lw_all := lw_g (lw_at lw_m6 236 rfl) rfl
theorem q1566 : (Jvm.Cond.methodLink "EarthMeshLaw" (72 : Nat) ({ cls := "EarthMesh", name := "cheapest", desc := "(I)I" } : Jvm.MethodName)) ∈ lw_all := lw_g (lw_at lw_m6 237 rfl) rfl
theorem q1586 : (Jvm.Cond.methodLink "EarthMeshLaw" (171 : Nat) ({ cls := "EarthMeshLaw", name := "stored", desc := "(LEarthMesh;II[J)I" } : Jvm.MethodName)) ∈ lw_all := lw_g (lw_at lw_m7 17 rfl) rfl
theorem q1587 : (Jvm.Cond.static ({ cls := "EarthMeshLaw", name := "stored", desc := "(LEarthMesh;II[J)I" } : Jvm.MethodName)) ∈ lw_all := lw_g (lw_at lw_m7 18 rfl) rfl
theorem q1588 : (Jvm.Cond.codeWith ({ cls := "EarthMeshLaw", name := "stored", desc := "(LEarthMesh;II[J)I" } : Jvm.MethodName) method_21_code (5 : Nat) (Option.some Jvm.ClassFile.FieldType.int) [((0 : Nat), (10 : Nat), (13 : Nat), (18 : Nat))]) ∈ lw_all := lw_g (lw_at lw_m7 19 rfl) rfl
theorem q1589 : (Jvm.Cond.methodLink "EarthMeshLaw" (75 : Nat) ({ cls := "EarthMesh", name := "stored", desc := "(II)I" } : Jvm.MethodName)) ∈ lw_all := lw_g (lw_at lw_m7 20 rfl) rfl
theorem q1593 : (Jvm.Cond.classLink "EarthMeshLaw" (79 : Nat) "EarthMeshModel") ∈ lw_all := lw_g (lw_at lw_m7 24 rfl) rfl
theorem q1595 : (Jvm.Cond.methodLink "EarthMeshLaw" (81 : Nat) ({ cls := "EarthMeshModel", name := "<init>", desc := "()V" } : Jvm.MethodName)) ∈ lw_all := lw_g (lw_at lw_m7 26 rfl) rfl
theorem q1724 : (Jvm.Cond.methodLink "EarthMeshLaw" (93 : Nat) ({ cls := "EarthMeshModel", name := "thrown", desc := "()I" } : Jvm.MethodName)) ∈ lw_all := lw_g (lw_at lw_m7 155 rfl) rfl
theorem q1728 : (Jvm.Cond.methodLink "EarthMeshLaw" (86 : Nat) ({ cls := "EarthMeshModel", name := "feed", desc := "(IIIII)I" } : Jvm.MethodName)) ∈ lw_all := lw_g (lw_at lw_m7 159 rfl) rfl
theorem q1736 : (Jvm.Cond.methodLink "EarthMeshLaw" (92 : Nat) ({ cls := "EarthMeshModel", name := "mesh", desc := "(I)I" } : Jvm.MethodName)) ∈ lw_all := lw_g (lw_at lw_m7 167 rfl) rfl
theorem q1812 : (Jvm.Cond.methodLink "EarthMeshLaw" (100 : Nat) ({ cls := "EarthMeshModel", name := "fault", desc := "()I" } : Jvm.MethodName)) ∈ lw_all := lw_g (lw_at lw_m8 3 rfl) rfl
theorem q1816 : (Jvm.Cond.methodLink "EarthMeshLaw" (103 : Nat) ({ cls := "EarthMeshModel", name := "count", desc := "(I)I" } : Jvm.MethodName)) ∈ lw_all := lw_g (lw_at lw_m8 7 rfl) rfl
theorem q1966 : (Jvm.Cond.methodLink "EarthMeshLaw" (107 : Nat) ({ cls := "EarthMeshModel", name := "node", desc := "(II)I" } : Jvm.MethodName)) ∈ lw_all := lw_g (lw_at lw_m8 157 rfl) rfl
theorem q1977 : (Jvm.Cond.methodLink "EarthMeshLaw" (111 : Nat) ({ cls := "EarthMeshModel", name := "at", desc := "(IIZ)J" } : Jvm.MethodName)) ∈ lw_all := lw_g (lw_at lw_m8 168 rfl) rfl
theorem q1987 : (Jvm.Cond.methodLink "EarthMeshLaw" (115 : Nat) ({ cls := "EarthMeshModel", name := "bits", desc := "(IZ)J" } : Jvm.MethodName)) ∈ lw_all := lw_g (lw_at lw_m8 178 rfl) rfl
theorem q1993 : (Jvm.Cond.methodLink "EarthMeshLaw" (136 : Nat) ({ cls := "EarthMeshModel", name := "share", desc := "(I)I" } : Jvm.MethodName)) ∈ lw_all := lw_g (lw_at lw_m8 184 rfl) rfl
theorem q1998 : (Jvm.Cond.methodLink "EarthMeshLaw" (118 : Nat) ({ cls := "EarthMeshModel", name := "ground", desc := "(IIZ)J" } : Jvm.MethodName)) ∈ lw_all := lw_g (lw_at lw_m8 189 rfl) rfl
theorem q2006 : (Jvm.Cond.methodLink "EarthMeshLaw" (121 : Nat) ({ cls := "EarthMeshModel", name := "worst", desc := "(I)I" } : Jvm.MethodName)) ∈ lw_all := lw_g (lw_at lw_m8 197 rfl) rfl
theorem q2018 : (Jvm.Cond.methodLink "EarthMeshLaw" (124 : Nat) ({ cls := "EarthMeshModel", name := "box", desc := "(II)I" } : Jvm.MethodName)) ∈ lw_all := lw_g (lw_at lw_m8 209 rfl) rfl
theorem q2022 : (Jvm.Cond.methodLink "EarthMeshLaw" (127 : Nat) ({ cls := "EarthMeshModel", name := "reach", desc := "(I)I" } : Jvm.MethodName)) ∈ lw_all := lw_g (lw_at lw_m8 213 rfl) rfl
theorem q2026 : (Jvm.Cond.methodLink "EarthMeshLaw" (130 : Nat) ({ cls := "EarthMeshModel", name := "walk", desc := "(IIZ)J" } : Jvm.MethodName)) ∈ lw_all := lw_g (lw_at lw_m8 217 rfl) rfl
theorem q2042 : (Jvm.Cond.methodLink "EarthMeshLaw" (133 : Nat) ({ cls := "EarthMeshModel", name := "walked", desc := "(II)I" } : Jvm.MethodName)) ∈ lw_all := lw_g (lw_at lw_m8 233 rfl) rfl
theorem q2046 : (Jvm.Cond.methodLink "EarthMeshLaw" (139 : Nat) ({ cls := "EarthMeshModel", name := "cascade", desc := "(I)I" } : Jvm.MethodName)) ∈ lw_all := lw_g (lw_at lw_m8 237 rfl) rfl
theorem q2054 : (Jvm.Cond.methodLink "EarthMeshLaw" (143 : Nat) ({ cls := "EarthMeshModel", name := "sweep", desc := "(ZI)J" } : Jvm.MethodName)) ∈ lw_all := lw_g (lw_at lw_m9 5 rfl) rfl
theorem q2062 : (Jvm.Cond.methodLink "EarthMeshLaw" (146 : Nat) ({ cls := "EarthMeshModel", name := "free", desc := "(I)I" } : Jvm.MethodName)) ∈ lw_all := lw_g (lw_at lw_m9 13 rfl) rfl
theorem q2070 : (Jvm.Cond.methodLink "EarthMeshLaw" (156 : Nat) ({ cls := "EarthMeshModel", name := "cheapest", desc := "(I)I" } : Jvm.MethodName)) ∈ lw_all := lw_g (lw_at lw_m9 21 rfl) rfl
theorem q2093 : (Jvm.Cond.methodLink "EarthMeshLaw" (149 : Nat) ({ cls := "EarthMeshModel", name := "between", desc := "(IIZ)J" } : Jvm.MethodName)) ∈ lw_all := lw_g (lw_at lw_m9 44 rfl) rfl
theorem q2097 : (Jvm.Cond.methodLink "EarthMeshLaw" (153 : Nat) ({ cls := "EarthMeshModel", name := "seen", desc := "(IIIZ)J" } : Jvm.MethodName)) ∈ lw_all := lw_g (lw_at lw_m9 48 rfl) rfl
theorem q2107 : (Jvm.Cond.methodLink "EarthMeshLaw" (161 : Nat) ({ cls := "EarthMeshModel", name := "tell", desc := "(III)I" } : Jvm.MethodName)) ∈ lw_all := lw_g (lw_at lw_m9 58 rfl) rfl
theorem q2111 : (Jvm.Cond.methodLink "EarthMeshLaw" (165 : Nat) ({ cls := "EarthMeshModel", name := "comes", desc := "(II)I" } : Jvm.MethodName)) ∈ lw_all := lw_g (lw_at lw_m9 62 rfl) rfl
theorem q2115 : (Jvm.Cond.methodLink "EarthMeshLaw" (170 : Nat) ({ cls := "EarthMeshModel", name := "put", desc := "(IZI)I" } : Jvm.MethodName)) ∈ lw_all := lw_g (lw_at lw_m9 66 rfl) rfl
theorem q2123 : (Jvm.Cond.methodLink "EarthMeshLaw" (173 : Nat) ({ cls := "EarthMeshModel", name := "stored", desc := "(II)I" } : Jvm.MethodName)) ∈ lw_all := lw_g (lw_at lw_m9 74 rfl) rfl
theorem q2130 : (Jvm.Cond.methodLink "EarthMeshLaw" (178 : Nat) ({ cls := "EarthMeshModel", name := "build", desc := "(IIIZ)I" } : Jvm.MethodName)) ∈ lw_all := lw_g (lw_at lw_m9 81 rfl) rfl
def RX1 : String := "EarthMesh"
def TX1 : u_T := fun k => match k with
  | 0 => ("EarthMesh", "mesh", "LEarthMesh$Mesh;", false)
  | 1 => ("EarthMesh", "equations", "LEarthMesh$Equations;", true)
  | 2 => ("EarthMesh", "volts", "[J", true)
  | 3 => ("EarthMesh", "below", "J", false)
  | 4 => ("EarthMesh", "solvedSet", "I", false)
  | 5 => ("EarthMesh", "measures", "[LEarthMesh$Measure;", true)
  | 6 => ("EarthMesh", "tape", "[B", true)
  | 7 => ("EarthMesh", "refused", "[I", true)
  | 8 => ("EarthMesh", "taped", "I", false)
  | 9 => ("EarthMesh", "faultPlace", "I", false)
  | 10 => ("EarthMesh", "toll", "[J", true)
  | 11 => ("EarthMesh", "isDone", "[Z", true)
  | 12 => ("EarthMesh", "cutOff", "[J", true)
  | 13 => ("EarthMesh", "hundredths", "[I", true)
  | 14 => ("EarthMesh", "fallen", "[I", true)
  | 15 => ("EarthMesh", "cheap", "[I", true)
  | 16 => ("EarthMesh", "bars", "LEarthMesh$Bin;", true)
  | _ => ("EarthMesh", "rods", "LEarthMesh$Bin;", true)
def tyX1 : Nat → FieldType := fun k => match k with
  | 0 => .object "EarthMesh$Mesh"
  | 1 => .object "EarthMesh$Equations"
  | 2 => .array .long
  | 3 => .long
  | 4 => .int
  | 5 => .array (.object "EarthMesh$Measure")
  | 6 => .array .byte
  | 7 => .array .int
  | 8 => .int
  | 9 => .int
  | 10 => .array .long
  | 11 => .array .boolean
  | 12 => .array .long
  | 13 => .array .int
  | 14 => .array .int
  | 15 => .array .int
  | 16 => .object "EarthMesh$Bin"
  | _ => .object "EarthMesh$Bin"
abbrev wsX10 : List Cond := u_ws RX1 TX1 18
theorem nmX1 : ∀ a, a < 18 → ∀ b, b < 18 → a ≠ b → (TX1 a).2.1 ≠ (TX1 b).2.1 := by decide +kernel
theorem tyX1_ok : ∀ k, k < 18 → parseFieldDescriptor (TX1 k).2.2.1 = some (tyX1 k) := by decide +kernel
abbrev cX1_init : ByteArray := prog_1_method_15_code
def yX1_init : MethodName := ⟨RX1, "<init>", "()V"⟩
abbrev cX1_lambda_new_0 : ByteArray := prog_1_method_86_code
def yX1_lambda_new_0 : MethodName := ⟨RX1, "lambda$new$0", "(I)J"⟩
abbrev cX1_step : ByteArray := prog_1_method_11_code
def yX1_step : MethodName := ⟨RX1, "step", "(II)J"⟩
abbrev cX1_hasNext : ByteArray := prog_1_method_9_code
def yX1_hasNext : MethodName := ⟨RX1, "hasNext", "(II)Z"⟩
abbrev cX1_pointColumns : ByteArray := prog_1_method_4_code
def yX1_pointColumns : MethodName := ⟨RX1, "pointColumns", "()I"⟩
abbrev cX1_nextPoint : ByteArray := prog_1_method_10_code
def yX1_nextPoint : MethodName := ⟨RX1, "nextPoint", "(II)I"⟩
abbrev cX1_ground : ByteArray := prog_1_method_7_code
def yX1_ground : MethodName := ⟨RX1, "ground", "(I)J"⟩
abbrev cX1_nearest : ByteArray := prog_1_method_6_code
def yX1_nearest : MethodName := ⟨RX1, "nearest", "(II)I"⟩
abbrev cX1_touch : ByteArray := prog_1_method_8_code
def yX1_touch : MethodName := ⟨RX1, "touch", "(I)J"⟩
abbrev cX1_feed : ByteArray := prog_1_method_19_code
def yX1_feed : MethodName := ⟨RX1, "feed", "(IIIII)I"⟩
abbrev cX1_refuses : ByteArray := prog_1_method_23_code
def yX1_refuses : MethodName := ⟨RX1, "refuses", "(I)I"⟩
abbrev cX1_lay : ByteArray := prog_1_method_20_code
def yX1_lay : MethodName := ⟨RX1, "lay", "(I)V"⟩
abbrev cX1_fault : ByteArray := prog_1_method_22_code
def yX1_fault : MethodName := ⟨RX1, "fault", "()I"⟩
abbrev cX1_tell : ByteArray := prog_1_method_78_code
def yX1_tell : MethodName := ⟨RX1, "tell", "(III)I"⟩
abbrev cX1_isNode : ByteArray := prog_1_method_29_code
def yX1_isNode : MethodName := ⟨RX1, "isNode", "(I)Z"⟩
abbrev cX1_within : ByteArray := prog_1_method_18_code
def yX1_within : MethodName := ⟨RX1, "within", "(III)Z"⟩
abbrev cX1_comes : ByteArray := prog_1_method_79_code
def yX1_comes : MethodName := ⟨RX1, "comes", "(II)I"⟩
abbrev cX1_put : ByteArray := prog_1_method_81_code
def yX1_put : MethodName := ⟨RX1, "put", "(IZI)I"⟩
abbrev cX1_bin : ByteArray := prog_1_method_80_code
def yX1_bin : MethodName := ⟨RX1, "bin", "(I)LEarthMesh$Bin;"⟩
abbrev cX1_build : ByteArray := prog_1_method_83_code
def yX1_build : MethodName := ⟨RX1, "build", "(IIIZ)I"⟩
abbrev cX1_mesh : ByteArray := prog_1_method_21_code
def yX1_mesh : MethodName := ⟨RX1, "mesh", "(I)I"⟩
abbrev cX1_right : ByteArray := prog_1_method_16_code
def yX1_right : MethodName := ⟨RX1, "right", "(Z)V"⟩
abbrev cX1_count : ByteArray := prog_1_method_28_code
def yX1_count : MethodName := ⟨RX1, "count", "(I)I"⟩
abbrev cX1_there : ByteArray := prog_1_method_17_code
def yX1_there : MethodName := ⟨RX1, "there", "(Z)V"⟩
abbrev cX1_isSafe : ByteArray := prog_1_method_14_code
def yX1_isSafe : MethodName := ⟨RX1, "isSafe", "()Z"⟩
abbrev cX1_solves : ByteArray := prog_1_method_1_code
def yX1_solves : MethodName := ⟨RX1, "solves", "()V"⟩
abbrev cX1_isWithin : ByteArray := prog_1_method_13_code
def yX1_isWithin : MethodName := ⟨RX1, "isWithin", "(II)Z"⟩
abbrev cX1_most : ByteArray := prog_1_method_12_code
def yX1_most : MethodName := ⟨RX1, "most", "(I)I"⟩
abbrev cX1_points : ByteArray := prog_1_method_5_code
def yX1_points : MethodName := ⟨RX1, "points", "()I"⟩
abbrev cX1_missed : ByteArray := prog_1_method_27_code
def yX1_missed : MethodName := ⟨RX1, "missed", "()I"⟩
abbrev cX1_resistsWithout : ByteArray := prog_1_method_26_code
def yX1_resistsWithout : MethodName := ⟨RX1, "resistsWithout", "(II)LEarthMesh$Part;"⟩
abbrev cX1_resistsNow : ByteArray := prog_1_method_25_code
def yX1_resistsNow : MethodName := ⟨RX1, "resistsNow", "()LEarthMesh$Part;"⟩
abbrev cX1_resists : ByteArray := prog_1_method_3_code
def yX1_resists : MethodName := ⟨RX1, "resists", "(I)LEarthMesh$Part;"⟩
abbrev cX1_isMore : ByteArray := prog_1_method_24_code
def yX1_isMore : MethodName := ⟨RX1, "isMore", "(LEarthMesh$Part;LEarthMesh$Part;)Z"⟩
abbrev cX1_best : ByteArray := prog_1_method_76_code
def yX1_best : MethodName := ⟨RX1, "best", "()I"⟩
abbrev cX1_canAdd : ByteArray := prog_1_method_70_code
def yX1_canAdd : MethodName := ⟨RX1, "canAdd", "(II)Z"⟩
abbrev cX1_told : ByteArray := prog_1_method_73_code
def yX1_told : MethodName := ⟨RX1, "told", "(I)I"⟩
abbrev cX1_needed : ByteArray := prog_1_method_75_code
def yX1_needed : MethodName := ⟨RX1, "needed", "(Z)I"⟩
abbrev cX1_bars : ByteArray := prog_1_method_62_code
def yX1_bars : MethodName := ⟨RX1, "bars", "()I"⟩
abbrev cX1_rods : ByteArray := prog_1_method_63_code
def yX1_rods : MethodName := ⟨RX1, "rods", "()I"⟩
abbrev cX1_limit : ByteArray := prog_1_method_56_code
def yX1_limit : MethodName := ⟨RX1, "limit", "()I"⟩
abbrev cX1_thinned : ByteArray := prog_1_method_57_code
def yX1_thinned : MethodName := ⟨RX1, "thinned", "(Z)I"⟩
abbrev cX1_rows : ByteArray := prog_1_method_65_code
def yX1_rows : MethodName := ⟨RX1, "rows", "()[[I"⟩
abbrev cX1_node : ByteArray := prog_1_method_30_code
def yX1_node : MethodName := ⟨RX1, "node", "(II)I"⟩
abbrev cX1_at : ByteArray := prog_1_method_32_code
def yX1_at : MethodName := ⟨RX1, "at", "(IIZ)J"⟩
abbrev cX1_resistsTold : ByteArray := prog_1_method_33_code
def yX1_resistsTold : MethodName := ⟨RX1, "resistsTold", "(I)LEarthMesh$Part;"⟩
abbrev cX1_mustSolve : ByteArray := prog_1_method_2_code
def yX1_mustSolve : MethodName := ⟨RX1, "mustSolve", "()V"⟩
abbrev cX1_flow : ByteArray := prog_1_method_31_code
def yX1_flow : MethodName := ⟨RX1, "flow", "(II)J"⟩
abbrev cX1_bits : ByteArray := prog_1_method_34_code
def yX1_bits : MethodName := ⟨RX1, "bits", "(IZ)J"⟩
abbrev cX1_ground_2 : ByteArray := prog_1_method_35_code
def yX1_ground_2 : MethodName := ⟨RX1, "ground", "(IIZ)J"⟩
abbrev cX1_worst : ByteArray := prog_1_method_36_code
def yX1_worst : MethodName := ⟨RX1, "worst", "(I)I"⟩
abbrev cX1_box : ByteArray := prog_1_method_40_code
def yX1_box : MethodName := ⟨RX1, "box", "(II)I"⟩
abbrev cX1_boxOf : ByteArray := prog_1_method_38_code
def yX1_boxOf : MethodName := ⟨RX1, "boxOf", "(I)[I"⟩
abbrev cX1_isAbove : ByteArray := prog_1_method_37_code
def yX1_isAbove : MethodName := ⟨RX1, "isAbove", "(III)Z"⟩
abbrev cX1_holds : ByteArray := prog_1_method_39_code
def yX1_holds : MethodName := ⟨RX1, "holds", "([II)V"⟩
abbrev cX1_reach : ByteArray := prog_1_method_41_code
def yX1_reach : MethodName := ⟨RX1, "reach", "(I)I"⟩
abbrev cX1_walk : ByteArray := prog_1_method_48_code
def yX1_walk : MethodName := ⟨RX1, "walk", "(IIZ)J"⟩
abbrev cX1_pointsThere : ByteArray := prog_1_method_47_code
def yX1_pointsThere : MethodName := ⟨RX1, "pointsThere", "(II)V"⟩
abbrev cX1_leastToll : ByteArray := prog_1_method_46_code
def yX1_leastToll : MethodName := ⟨RX1, "leastToll", "(II)J"⟩
abbrev cX1_lambda_leastToll_1 : ByteArray := prog_1_method_85_code
def yX1_lambda_leastToll_1 : MethodName := ⟨RX1, "lambda$leastToll$1", "(JJ)J"⟩
abbrev cX1_goes : ByteArray := prog_1_method_45_code
def yX1_goes : MethodName := ⟨RX1, "goes", "(IJLEarthMesh$Toll;)V"⟩
abbrev cX1_begins : ByteArray := prog_1_method_42_code
def yX1_begins : MethodName := ⟨RX1, "begins", "(I)V"⟩
abbrev cX1_stepBetween : ByteArray := prog_1_method_44_code
def yX1_stepBetween : MethodName := ⟨RX1, "stepBetween", "(II)J"⟩
abbrev cX1_nearestLeft : ByteArray := prog_1_method_43_code
def yX1_nearestLeft : MethodName := ⟨RX1, "nearestLeft", "()I"⟩
abbrev cX1_walked : ByteArray := prog_1_method_49_code
def yX1_walked : MethodName := ⟨RX1, "walked", "(II)I"⟩
abbrev cX1_lambda_walked_2 : ByteArray := prog_1_method_84_code
def yX1_lambda_walked_2 : MethodName := ⟨RX1, "lambda$walked$2", "(JJ)J"⟩
abbrev cX1_share : ByteArray := prog_1_method_59_code
def yX1_share : MethodName := ⟨RX1, "share", "(I)I"⟩
abbrev cX1_laysShares : ByteArray := prog_1_method_58_code
def yX1_laysShares : MethodName := ⟨RX1, "laysShares", "()V"⟩
abbrev cX1_cascade : ByteArray := prog_1_method_66_code
def yX1_cascade : MethodName := ⟨RX1, "cascade", "(I)I"⟩
abbrev cX1_falls : ByteArray := prog_1_method_64_code
def yX1_falls : MethodName := ⟨RX1, "falls", "()V"⟩
abbrev cX1_melts : ByteArray := prog_1_method_61_code
def yX1_melts : MethodName := ⟨RX1, "melts", "()Z"⟩
abbrev cX1_isTooMuch : ByteArray := prog_1_method_60_code
def yX1_isTooMuch : MethodName := ⟨RX1, "isTooMuch", "(II)Z"⟩
abbrev cX1_sweep : ByteArray := prog_1_method_55_code
def yX1_sweep : MethodName := ⟨RX1, "sweep", "(ZI)J"⟩
abbrev cX1_worstBy : ByteArray := prog_1_method_54_code
def yX1_worstBy : MethodName := ⟨RX1, "worstBy", "(II)LEarthMesh$Part;"⟩
abbrev cX1_worstOf : ByteArray := prog_1_method_53_code
def yX1_worstOf : MethodName := ⟨RX1, "worstOf", "(I)LEarthMesh$Part;"⟩
abbrev cX1_free : ByteArray := prog_1_method_52_code
def yX1_free : MethodName := ⟨RX1, "free", "(I)I"⟩
abbrev cX1_isRim : ByteArray := prog_1_method_50_code
def yX1_isRim : MethodName := ⟨RX1, "isRim", "(I)Z"⟩
abbrev cX1_doesCome : ByteArray := prog_1_method_51_code
def yX1_doesCome : MethodName := ⟨RX1, "doesCome", "(IJ)Z"⟩
abbrev cX1_between : ByteArray := prog_1_method_67_code
def yX1_between : MethodName := ⟨RX1, "between", "(IIZ)J"⟩
abbrev cX1_seen : ByteArray := prog_1_method_69_code
def yX1_seen : MethodName := ⟨RX1, "seen", "(IIIZ)J"⟩
abbrev cX1_leaked : ByteArray := prog_1_method_68_code
def yX1_leaked : MethodName := ⟨RX1, "leaked", "(II)J"⟩
abbrev cX1_cheapest : ByteArray := prog_1_method_77_code
def yX1_cheapest : MethodName := ⟨RX1, "cheapest", "(I)I"⟩
abbrev cX1_laysCheap : ByteArray := prog_1_method_72_code
def yX1_laysCheap : MethodName := ⟨RX1, "laysCheap", "()V"⟩
abbrev cX1_isCheap : ByteArray := prog_1_method_71_code
def yX1_isCheap : MethodName := ⟨RX1, "isCheap", "(IIII)V"⟩
abbrev cX1_tries : ByteArray := prog_1_method_74_code
def yX1_tries : MethodName := ⟨RX1, "tries", "(II)V"⟩
abbrev cX1_stored : ByteArray := prog_1_method_82_code
def yX1_stored : MethodName := ⟨RX1, "stored", "(II)I"⟩
theorem q130 : (Jvm.Cond.initialized "EarthMesh") ∈ lw_all := lw_g (lw_at lw_m1 1 rfl) rfl
theorem q167 : (Jvm.Cond.instantiable "EarthMesh" (18 : Nat)) ∈ lw_all := lw_g (lw_at lw_m1 38 rfl) rfl
theorem q169 : (Jvm.Cond.instanceMethod ({ cls := "EarthMesh", name := "<init>", desc := "()V" } : Jvm.MethodName)) ∈ lw_all := lw_g (lw_at lw_m1 40 rfl) rfl
theorem q170 : (Jvm.Cond.code ({ cls := "EarthMesh", name := "<init>", desc := "()V" } : Jvm.MethodName) prog_1_method_15_code (1 : Nat) (Option.none : Option Jvm.ClassFile.FieldType)) ∈ lw_all := lw_g (lw_at lw_m1 41 rfl) rfl
theorem q171 : (Jvm.Cond.methodLink "EarthMesh" (143 : Nat) ({ cls := "java/lang/Object", name := "<init>", desc := "()V" } : Jvm.MethodName)) ∈ lw_all := lw_g (lw_at lw_m1 42 rfl) rfl
theorem q174 : (Jvm.Cond.classLink "EarthMesh" (8 : Nat) "EarthMesh$Mesh") ∈ lw_all := lw_g (lw_at lw_m1 45 rfl) rfl
theorem q176 : (Jvm.Cond.methodLinkNest "EarthMesh" (146 : Nat) ({ cls := "EarthMesh$Mesh", name := "<init>", desc := "()V" } : Jvm.MethodName) "EarthMesh") ∈ lw_tbl := lw_at lw_m1 47 rfl
theorem q183 : (Jvm.Cond.fieldLinkNest "EarthMesh" (77 : Nat) "EarthMesh$Mesh" "columns" "I" "EarthMesh") ∈ lw_tbl := lw_at lw_m1 54 rfl
theorem q186 : (Jvm.Cond.fieldLinkNest "EarthMesh" (83 : Nat) "EarthMesh$Mesh" "lines" "I" "EarthMesh") ∈ lw_tbl := lw_at lw_m1 57 rfl
theorem q188 : (Jvm.Cond.fieldLinkNest "EarthMesh" (7 : Nat) "EarthMesh$Mesh" "node" "I" "EarthMesh") ∈ lw_tbl := lw_at lw_m1 59 rfl
theorem q191 : (Jvm.Cond.fieldLinkNest "EarthMesh" (59 : Nat) "EarthMesh$Mesh" "amperes" "I" "EarthMesh") ∈ lw_tbl := lw_at lw_m1 62 rfl
theorem q194 : (Jvm.Cond.fieldLinkNest "EarthMesh" (90 : Nat) "EarthMesh$Mesh" "cover" "I" "EarthMesh") ∈ lw_tbl := lw_at lw_m1 65 rfl
theorem q198 : (Jvm.Cond.fieldLinkNest "EarthMesh" (134 : Nat) "EarthMesh$Mesh" "step" "I" "EarthMesh") ∈ lw_tbl := lw_at lw_m1 69 rfl
theorem q201 : (Jvm.Cond.fieldLinkNest "EarthMesh" (140 : Nat) "EarthMesh$Mesh" "touch" "I" "EarthMesh") ∈ lw_tbl := lw_at lw_m1 72 rfl
theorem q204 : (Jvm.Cond.fieldLinkNest "EarthMesh" (260 : Nat) "EarthMesh$Mesh" "barPrice" "I" "EarthMesh") ∈ lw_tbl := lw_at lw_m1 75 rfl
theorem q207 : (Jvm.Cond.fieldLinkNest "EarthMesh" (263 : Nat) "EarthMesh$Mesh" "rodPrice" "I" "EarthMesh") ∈ lw_tbl := lw_at lw_m1 78 rfl
theorem q210 : (Jvm.Cond.fieldLinkNest "EarthMesh" (273 : Nat) "EarthMesh$Mesh" "bears" "I" "EarthMesh") ∈ lw_tbl := lw_at lw_m1 81 rfl
theorem q214 : (Jvm.Cond.fieldLinkNest "EarthMesh" (238 : Nat) "EarthMesh$Mesh" "much" "[[I" "EarthMesh") ∈ lw_tbl := lw_at lw_m1 85 rfl
theorem q239 : (Jvm.Cond.classLink "EarthMesh" (35 : Nat) "EarthMesh$Equations") ∈ lw_all := lw_g (lw_at lw_m1 110 rfl) rfl
theorem q241 : (Jvm.Cond.methodLinkNest "EarthMesh" (147 : Nat) ({ cls := "EarthMesh$Equations", name := "<init>", desc := "(LEarthMesh;)V" } : Jvm.MethodName) "EarthMesh") ∈ lw_tbl := lw_at lw_m1 112 rfl
theorem q280 : (Jvm.Cond.fieldLinkNest "EarthMesh" (40 : Nat) "EarthMesh$Equations" "whole" "J" "EarthMesh") ∈ lw_tbl := lw_at lw_m1 151 rfl
theorem q303 : (Jvm.Cond.classLink "EarthMesh" (126 : Nat) "EarthMesh$Measure") ∈ lw_all := lw_g (lw_at lw_m1 174 rfl) rfl
theorem q305 : (Jvm.Cond.privateMethod ({ cls := "EarthMesh", name := "lambda$new$0", desc := "(I)J" } : Jvm.MethodName)) ∈ lw_tbl := lw_at lw_m1 176 rfl
theorem q306 : (Jvm.Cond.instanceMethod ({ cls := "EarthMesh", name := "lambda$new$0", desc := "(I)J" } : Jvm.MethodName)) ∈ lw_all := lw_g (lw_at lw_m1 177 rfl) rfl
theorem q307 : (Jvm.Cond.code ({ cls := "EarthMesh", name := "lambda$new$0", desc := "(I)J" } : Jvm.MethodName) prog_1_method_86_code (2 : Nat) (Option.some Jvm.ClassFile.FieldType.long)) ∈ lw_all := lw_g (lw_at lw_m1 178 rfl) rfl
theorem q308 : (Jvm.Cond.methodLink "EarthMesh" (326 : Nat) ({ cls := "EarthMesh", name := "step", desc := "(II)J" } : Jvm.MethodName)) ∈ lw_all := lw_g (lw_at lw_m1 179 rfl) rfl
theorem q309 : (Jvm.Cond.privateMethod ({ cls := "EarthMesh", name := "step", desc := "(II)J" } : Jvm.MethodName)) ∈ lw_tbl := lw_at lw_m1 180 rfl
theorem q310 : (Jvm.Cond.instanceMethod ({ cls := "EarthMesh", name := "step", desc := "(II)J" } : Jvm.MethodName)) ∈ lw_all := lw_g (lw_at lw_m1 181 rfl) rfl
theorem q311 : (Jvm.Cond.code ({ cls := "EarthMesh", name := "step", desc := "(II)J" } : Jvm.MethodName) prog_1_method_11_code (3 : Nat) (Option.some Jvm.ClassFile.FieldType.long)) ∈ lw_all := lw_g (lw_at lw_m1 182 rfl) rfl
theorem q312 : (Jvm.Cond.methodLink "EarthMesh" (105 : Nat) ({ cls := "EarthMesh", name := "hasNext", desc := "(II)Z" } : Jvm.MethodName)) ∈ lw_all := lw_g (lw_at lw_m1 183 rfl) rfl
theorem q313 : (Jvm.Cond.privateMethod ({ cls := "EarthMesh", name := "hasNext", desc := "(II)Z" } : Jvm.MethodName)) ∈ lw_tbl := lw_at lw_m1 184 rfl
theorem q314 : (Jvm.Cond.instanceMethod ({ cls := "EarthMesh", name := "hasNext", desc := "(II)Z" } : Jvm.MethodName)) ∈ lw_all := lw_g (lw_at lw_m1 185 rfl) rfl
theorem q315 : (Jvm.Cond.code ({ cls := "EarthMesh", name := "hasNext", desc := "(II)Z" } : Jvm.MethodName) prog_1_method_9_code (3 : Nat) (Option.some Jvm.ClassFile.FieldType.boolean)) ∈ lw_all := lw_g (lw_at lw_m1 186 rfl) rfl
theorem q316 : (Jvm.Cond.methodLink "EarthMesh" (80 : Nat) ({ cls := "EarthMesh", name := "pointColumns", desc := "()I" } : Jvm.MethodName)) ∈ lw_all := lw_g (lw_at lw_m1 187 rfl) rfl
theorem q317 : (Jvm.Cond.privateMethod ({ cls := "EarthMesh", name := "pointColumns", desc := "()I" } : Jvm.MethodName)) ∈ lw_tbl := lw_at lw_m1 188 rfl
theorem q318 : (Jvm.Cond.instanceMethod ({ cls := "EarthMesh", name := "pointColumns", desc := "()I" } : Jvm.MethodName)) ∈ lw_all := lw_g (lw_at lw_m1 189 rfl) rfl
theorem q319 : (Jvm.Cond.code ({ cls := "EarthMesh", name := "pointColumns", desc := "()I" } : Jvm.MethodName) prog_1_method_4_code (1 : Nat) (Option.some Jvm.ClassFile.FieldType.int)) ∈ lw_all := lw_g (lw_at lw_m1 190 rfl) rfl
theorem q320 : (Jvm.Cond.methodLink "EarthMesh" (109 : Nat) ({ cls := "EarthMesh", name := "nextPoint", desc := "(II)I" } : Jvm.MethodName)) ∈ lw_all := lw_g (lw_at lw_m1 191 rfl) rfl
theorem q321 : (Jvm.Cond.privateMethod ({ cls := "EarthMesh", name := "nextPoint", desc := "(II)I" } : Jvm.MethodName)) ∈ lw_tbl := lw_at lw_m1 192 rfl
theorem q322 : (Jvm.Cond.instanceMethod ({ cls := "EarthMesh", name := "nextPoint", desc := "(II)I" } : Jvm.MethodName)) ∈ lw_all := lw_g (lw_at lw_m1 193 rfl) rfl
theorem q323 : (Jvm.Cond.code ({ cls := "EarthMesh", name := "nextPoint", desc := "(II)I" } : Jvm.MethodName) prog_1_method_10_code (3 : Nat) (Option.some Jvm.ClassFile.FieldType.int)) ∈ lw_all := lw_g (lw_at lw_m1 194 rfl) rfl
theorem q324 : (Jvm.Cond.methodLink "EarthMesh" (101 : Nat) ({ cls := "EarthMesh", name := "ground", desc := "(I)J" } : Jvm.MethodName)) ∈ lw_all := lw_g (lw_at lw_m1 195 rfl) rfl
theorem q325 : (Jvm.Cond.privateMethod ({ cls := "EarthMesh", name := "ground", desc := "(I)J" } : Jvm.MethodName)) ∈ lw_tbl := lw_at lw_m1 196 rfl
theorem q326 : (Jvm.Cond.instanceMethod ({ cls := "EarthMesh", name := "ground", desc := "(I)J" } : Jvm.MethodName)) ∈ lw_all := lw_g (lw_at lw_m1 197 rfl) rfl
theorem q327 : (Jvm.Cond.code ({ cls := "EarthMesh", name := "ground", desc := "(I)J" } : Jvm.MethodName) prog_1_method_7_code (5 : Nat) (Option.some Jvm.ClassFile.FieldType.long)) ∈ lw_all := lw_g (lw_at lw_m1 198 rfl) rfl
theorem q328 : (Jvm.Cond.methodLink "EarthMesh" (86 : Nat) ({ cls := "EarthMesh", name := "nearest", desc := "(II)I" } : Jvm.MethodName)) ∈ lw_all := lw_g (lw_at lw_m1 199 rfl) rfl
theorem q329 : (Jvm.Cond.privateMethod ({ cls := "EarthMesh", name := "nearest", desc := "(II)I" } : Jvm.MethodName)) ∈ lw_tbl := lw_at lw_m1 200 rfl
theorem q330 : (Jvm.Cond.instanceMethod ({ cls := "EarthMesh", name := "nearest", desc := "(II)I" } : Jvm.MethodName)) ∈ lw_all := lw_g (lw_at lw_m1 201 rfl) rfl
theorem q331 : (Jvm.Cond.code ({ cls := "EarthMesh", name := "nearest", desc := "(II)I" } : Jvm.MethodName) prog_1_method_6_code (5 : Nat) (Option.some Jvm.ClassFile.FieldType.int)) ∈ lw_all := lw_g (lw_at lw_m1 202 rfl) rfl
theorem q332 : (Jvm.Cond.methodLink "EarthMesh" (112 : Nat) ({ cls := "java/lang/Math", name := "abs", desc := "(J)J" } : Jvm.MethodName)) ∈ lw_all := lw_g (lw_at lw_m1 203 rfl) rfl
theorem q335 : (Jvm.Cond.constantLong "EarthMesh" (116 : Nat) (-1 : Int64)) ∈ lw_all := lw_g (lw_at lw_m1 206 rfl) rfl
theorem q336 : (Jvm.Cond.privateMethod ({ cls := "EarthMesh", name := "touch", desc := "(I)J" } : Jvm.MethodName)) ∈ lw_tbl := lw_at lw_m1 207 rfl
theorem q337 : (Jvm.Cond.instanceMethod ({ cls := "EarthMesh", name := "touch", desc := "(I)J" } : Jvm.MethodName)) ∈ lw_all := lw_g (lw_at lw_m1 208 rfl) rfl
theorem q338 : (Jvm.Cond.code ({ cls := "EarthMesh", name := "touch", desc := "(I)J" } : Jvm.MethodName) prog_1_method_8_code (5 : Nat) (Option.some Jvm.ClassFile.FieldType.long)) ∈ lw_all := lw_g (lw_at lw_m1 209 rfl) rfl
theorem q339 : (Jvm.Cond.methodLink "EarthMesh" (93 : Nat) ({ cls := "java/lang/Math", name := "max", desc := "(JJ)J" } : Jvm.MethodName)) ∈ lw_all := lw_g (lw_at lw_m1 210 rfl) rfl
theorem q342 : (Jvm.Cond.constantLong "EarthMesh" (99 : Nat) (40 : Int64)) ∈ lw_all := lw_g (lw_at lw_m1 213 rfl) rfl
theorem q343 : (Jvm.Cond.classLink "EarthMesh" (184 : Nat) "EarthMesh$Bin") ∈ lw_all := lw_g (lw_at lw_m1 214 rfl) rfl
theorem q345 : (Jvm.Cond.methodLink "EarthMesh" (186 : Nat) ({ cls := "EarthMesh$Bin", name := "<init>", desc := "(Z)V" } : Jvm.MethodName)) ∈ lw_all := lw_g (lw_at lw_m1 216 rfl) rfl
theorem q359 : (Jvm.Cond.fieldLink "EarthMesh" (1 : Nat) "EarthMesh" "mesh" "LEarthMesh$Mesh;") ∈ lw_all := lw_g (lw_at lw_m1 230 rfl) rfl
theorem q361 : (Jvm.Cond.fieldLink "EarthMesh" (30 : Nat) "EarthMesh" "equations" "LEarthMesh$Equations;") ∈ lw_all := lw_g (lw_at lw_m1 232 rfl) rfl
theorem q362 : (Jvm.Cond.fieldLink "EarthMesh" (47 : Nat) "EarthMesh" "volts" "[J") ∈ lw_all := lw_g (lw_at lw_m1 233 rfl) rfl
theorem q363 : (Jvm.Cond.fieldLink "EarthMesh" (44 : Nat) "EarthMesh" "below" "J") ∈ lw_all := lw_g (lw_at lw_m1 234 rfl) rfl
theorem q364 : (Jvm.Cond.fieldLink "EarthMesh" (17 : Nat) "EarthMesh" "solvedSet" "I") ∈ lw_all := lw_g (lw_at lw_m1 235 rfl) rfl
theorem q365 : (Jvm.Cond.fieldLink "EarthMesh" (118 : Nat) "EarthMesh" "measures" "[LEarthMesh$Measure;") ∈ lw_all := lw_g (lw_at lw_m1 236 rfl) rfl
theorem q367 : (Jvm.Cond.fieldLink "EarthMesh" (154 : Nat) "EarthMesh" "tape" "[B") ∈ lw_all := lw_g (lw_at lw_m1 238 rfl) rfl
theorem q368 : (Jvm.Cond.fieldLink "EarthMesh" (158 : Nat) "EarthMesh" "refused" "[I") ∈ lw_all := lw_g (lw_at lw_m1 239 rfl) rfl
theorem q369 : (Jvm.Cond.fieldLink "EarthMesh" (202 : Nat) "EarthMesh" "taped" "I") ∈ lw_all := lw_g (lw_at lw_m2 0 rfl) rfl
theorem q370 : (Jvm.Cond.fieldLink "EarthMesh" (162 : Nat) "EarthMesh" "faultPlace" "I") ∈ lw_all := lw_g (lw_at lw_m2 1 rfl) rfl
theorem q371 : (Jvm.Cond.fieldLink "EarthMesh" (165 : Nat) "EarthMesh" "toll" "[J") ∈ lw_all := lw_g (lw_at lw_m2 2 rfl) rfl
theorem q372 : (Jvm.Cond.fieldLink "EarthMesh" (168 : Nat) "EarthMesh" "isDone" "[Z") ∈ lw_all := lw_g (lw_at lw_m2 3 rfl) rfl
theorem q373 : (Jvm.Cond.fieldLink "EarthMesh" (172 : Nat) "EarthMesh" "cutOff" "[J") ∈ lw_all := lw_g (lw_at lw_m2 4 rfl) rfl
theorem q374 : (Jvm.Cond.fieldLink "EarthMesh" (175 : Nat) "EarthMesh" "hundredths" "[I") ∈ lw_all := lw_g (lw_at lw_m2 5 rfl) rfl
theorem q375 : (Jvm.Cond.fieldLink "EarthMesh" (178 : Nat) "EarthMesh" "fallen" "[I") ∈ lw_all := lw_g (lw_at lw_m2 6 rfl) rfl
theorem q376 : (Jvm.Cond.fieldLink "EarthMesh" (181 : Nat) "EarthMesh" "cheap" "[I") ∈ lw_all := lw_g (lw_at lw_m2 7 rfl) rfl
theorem q377 : (Jvm.Cond.fieldLink "EarthMesh" (189 : Nat) "EarthMesh" "bars" "LEarthMesh$Bin;") ∈ lw_all := lw_g (lw_at lw_m2 8 rfl) rfl
theorem q378 : (Jvm.Cond.fieldLink "EarthMesh" (193 : Nat) "EarthMesh" "rods" "LEarthMesh$Bin;") ∈ lw_all := lw_g (lw_at lw_m2 9 rfl) rfl
theorem q379 : (Jvm.Cond.lays "EarthMesh" "EarthMesh" "mesh" "LEarthMesh$Mesh;") ∈ lw_all := lw_g (lw_at lw_m2 10 rfl) rfl
theorem q380 : (Jvm.Cond.soleField "EarthMesh" "mesh") ∈ lw_all := lw_g (lw_at lw_m2 11 rfl) rfl
theorem q381 : (Jvm.Cond.laysFinal "EarthMesh" "EarthMesh" "equations" "LEarthMesh$Equations;") ∈ lw_all := lw_g (lw_at lw_m2 12 rfl) rfl
theorem q382 : (Jvm.Cond.soleField "EarthMesh" "equations") ∈ lw_all := lw_g (lw_at lw_m2 13 rfl) rfl
theorem q383 : (Jvm.Cond.laysFinal "EarthMesh" "EarthMesh" "volts" "[J") ∈ lw_all := lw_g (lw_at lw_m2 14 rfl) rfl
theorem q384 : (Jvm.Cond.soleField "EarthMesh" "volts") ∈ lw_all := lw_g (lw_at lw_m2 15 rfl) rfl
theorem q385 : (Jvm.Cond.lays "EarthMesh" "EarthMesh" "below" "J") ∈ lw_all := lw_g (lw_at lw_m2 16 rfl) rfl
theorem q386 : (Jvm.Cond.soleField "EarthMesh" "below") ∈ lw_all := lw_g (lw_at lw_m2 17 rfl) rfl
theorem q387 : (Jvm.Cond.lays "EarthMesh" "EarthMesh" "solvedSet" "I") ∈ lw_all := lw_g (lw_at lw_m2 18 rfl) rfl
theorem q388 : (Jvm.Cond.soleField "EarthMesh" "solvedSet") ∈ lw_all := lw_g (lw_at lw_m2 19 rfl) rfl
theorem q389 : (Jvm.Cond.laysFinal "EarthMesh" "EarthMesh" "measures" "[LEarthMesh$Measure;") ∈ lw_all := lw_g (lw_at lw_m2 20 rfl) rfl
theorem q390 : (Jvm.Cond.soleField "EarthMesh" "measures") ∈ lw_all := lw_g (lw_at lw_m2 21 rfl) rfl
theorem q391 : (Jvm.Cond.laysFinal "EarthMesh" "EarthMesh" "tape" "[B") ∈ lw_all := lw_g (lw_at lw_m2 22 rfl) rfl
theorem q392 : (Jvm.Cond.soleField "EarthMesh" "tape") ∈ lw_all := lw_g (lw_at lw_m2 23 rfl) rfl
theorem q393 : (Jvm.Cond.laysFinal "EarthMesh" "EarthMesh" "refused" "[I") ∈ lw_all := lw_g (lw_at lw_m2 24 rfl) rfl
theorem q394 : (Jvm.Cond.soleField "EarthMesh" "refused") ∈ lw_all := lw_g (lw_at lw_m2 25 rfl) rfl
theorem q395 : (Jvm.Cond.lays "EarthMesh" "EarthMesh" "taped" "I") ∈ lw_all := lw_g (lw_at lw_m2 26 rfl) rfl
theorem q396 : (Jvm.Cond.soleField "EarthMesh" "taped") ∈ lw_all := lw_g (lw_at lw_m2 27 rfl) rfl
theorem q397 : (Jvm.Cond.lays "EarthMesh" "EarthMesh" "faultPlace" "I") ∈ lw_all := lw_g (lw_at lw_m2 28 rfl) rfl
theorem q398 : (Jvm.Cond.soleField "EarthMesh" "faultPlace") ∈ lw_all := lw_g (lw_at lw_m2 29 rfl) rfl
theorem q399 : (Jvm.Cond.laysFinal "EarthMesh" "EarthMesh" "toll" "[J") ∈ lw_all := lw_g (lw_at lw_m2 30 rfl) rfl
theorem q400 : (Jvm.Cond.soleField "EarthMesh" "toll") ∈ lw_all := lw_g (lw_at lw_m2 31 rfl) rfl
theorem q401 : (Jvm.Cond.laysFinal "EarthMesh" "EarthMesh" "isDone" "[Z") ∈ lw_all := lw_g (lw_at lw_m2 32 rfl) rfl
theorem q402 : (Jvm.Cond.soleField "EarthMesh" "isDone") ∈ lw_all := lw_g (lw_at lw_m2 33 rfl) rfl
theorem q403 : (Jvm.Cond.laysFinal "EarthMesh" "EarthMesh" "cutOff" "[J") ∈ lw_all := lw_g (lw_at lw_m2 34 rfl) rfl
theorem q404 : (Jvm.Cond.soleField "EarthMesh" "cutOff") ∈ lw_all := lw_g (lw_at lw_m2 35 rfl) rfl
theorem q405 : (Jvm.Cond.laysFinal "EarthMesh" "EarthMesh" "hundredths" "[I") ∈ lw_all := lw_g (lw_at lw_m2 36 rfl) rfl
theorem q406 : (Jvm.Cond.soleField "EarthMesh" "hundredths") ∈ lw_all := lw_g (lw_at lw_m2 37 rfl) rfl
theorem q407 : (Jvm.Cond.laysFinal "EarthMesh" "EarthMesh" "fallen" "[I") ∈ lw_all := lw_g (lw_at lw_m2 38 rfl) rfl
theorem q408 : (Jvm.Cond.soleField "EarthMesh" "fallen") ∈ lw_all := lw_g (lw_at lw_m2 39 rfl) rfl
theorem q409 : (Jvm.Cond.laysFinal "EarthMesh" "EarthMesh" "cheap" "[I") ∈ lw_all := lw_g (lw_at lw_m2 40 rfl) rfl
theorem q410 : (Jvm.Cond.soleField "EarthMesh" "cheap") ∈ lw_all := lw_g (lw_at lw_m2 41 rfl) rfl
theorem q411 : (Jvm.Cond.laysFinal "EarthMesh" "EarthMesh" "bars" "LEarthMesh$Bin;") ∈ lw_all := lw_g (lw_at lw_m2 42 rfl) rfl
theorem q412 : (Jvm.Cond.soleField "EarthMesh" "bars") ∈ lw_all := lw_g (lw_at lw_m2 43 rfl) rfl
theorem q413 : (Jvm.Cond.laysFinal "EarthMesh" "EarthMesh" "rods" "LEarthMesh$Bin;") ∈ lw_all := lw_g (lw_at lw_m2 44 rfl) rfl
theorem q414 : (Jvm.Cond.soleField "EarthMesh" "rods") ∈ lw_all := lw_g (lw_at lw_m2 45 rfl) rfl
theorem q415 : (Jvm.Cond.superclass "EarthMesh" "java/lang/Object") ∈ lw_all := lw_g (lw_at lw_m2 46 rfl) rfl
theorem q417 : (Jvm.Cond.instanceMethod ({ cls := "EarthMesh", name := "feed", desc := "(IIIII)I" } : Jvm.MethodName)) ∈ lw_all := lw_g (lw_at lw_m2 48 rfl) rfl
theorem q418 : (Jvm.Cond.selects "EarthMesh" ({ cls := "EarthMesh", name := "feed", desc := "(IIIII)I" } : Jvm.MethodName) ({ cls := "EarthMesh", name := "feed", desc := "(IIIII)I" } : Jvm.MethodName)) ∈ lw_all := lw_g (lw_at lw_m2 49 rfl) rfl
theorem q419 : (Jvm.Cond.code ({ cls := "EarthMesh", name := "feed", desc := "(IIIII)I" } : Jvm.MethodName) prog_1_method_19_code (6 : Nat) (Option.some Jvm.ClassFile.FieldType.int)) ∈ lw_all := lw_g (lw_at lw_m2 50 rfl) rfl
theorem q420 : (Jvm.Cond.methodLink "EarthMesh" (205 : Nat) ({ cls := "EarthMesh", name := "refuses", desc := "(I)I" } : Jvm.MethodName)) ∈ lw_all := lw_g (lw_at lw_m2 51 rfl) rfl
theorem q421 : (Jvm.Cond.privateMethod ({ cls := "EarthMesh", name := "refuses", desc := "(I)I" } : Jvm.MethodName)) ∈ lw_tbl := lw_at lw_m2 52 rfl
theorem q422 : (Jvm.Cond.instanceMethod ({ cls := "EarthMesh", name := "refuses", desc := "(I)I" } : Jvm.MethodName)) ∈ lw_all := lw_g (lw_at lw_m2 53 rfl) rfl
theorem q423 : (Jvm.Cond.code ({ cls := "EarthMesh", name := "refuses", desc := "(I)I" } : Jvm.MethodName) prog_1_method_23_code (2 : Nat) (Option.some Jvm.ClassFile.FieldType.int)) ∈ lw_all := lw_g (lw_at lw_m2 54 rfl) rfl
theorem q424 : (Jvm.Cond.methodLink "EarthMesh" (208 : Nat) ({ cls := "EarthMesh", name := "lay", desc := "(I)V" } : Jvm.MethodName)) ∈ lw_all := lw_g (lw_at lw_m2 55 rfl) rfl
theorem q425 : (Jvm.Cond.privateMethod ({ cls := "EarthMesh", name := "lay", desc := "(I)V" } : Jvm.MethodName)) ∈ lw_tbl := lw_at lw_m2 56 rfl
theorem q426 : (Jvm.Cond.instanceMethod ({ cls := "EarthMesh", name := "lay", desc := "(I)V" } : Jvm.MethodName)) ∈ lw_all := lw_g (lw_at lw_m2 57 rfl) rfl
theorem q427 : (Jvm.Cond.code ({ cls := "EarthMesh", name := "lay", desc := "(I)V" } : Jvm.MethodName) prog_1_method_20_code (3 : Nat) (Option.none : Option Jvm.ClassFile.FieldType)) ∈ lw_all := lw_g (lw_at lw_m2 58 rfl) rfl
theorem q429 : (Jvm.Cond.instanceMethod ({ cls := "EarthMesh", name := "fault", desc := "()I" } : Jvm.MethodName)) ∈ lw_all := lw_g (lw_at lw_m2 60 rfl) rfl
theorem q430 : (Jvm.Cond.selects "EarthMesh" ({ cls := "EarthMesh", name := "fault", desc := "()I" } : Jvm.MethodName) ({ cls := "EarthMesh", name := "fault", desc := "()I" } : Jvm.MethodName)) ∈ lw_all := lw_g (lw_at lw_m2 61 rfl) rfl
theorem q431 : (Jvm.Cond.code ({ cls := "EarthMesh", name := "fault", desc := "()I" } : Jvm.MethodName) prog_1_method_22_code (1 : Nat) (Option.some Jvm.ClassFile.FieldType.int)) ∈ lw_all := lw_g (lw_at lw_m2 62 rfl) rfl
theorem q433 : (Jvm.Cond.instanceMethod ({ cls := "EarthMesh", name := "tell", desc := "(III)I" } : Jvm.MethodName)) ∈ lw_all := lw_g (lw_at lw_m2 64 rfl) rfl
theorem q434 : (Jvm.Cond.selects "EarthMesh" ({ cls := "EarthMesh", name := "tell", desc := "(III)I" } : Jvm.MethodName) ({ cls := "EarthMesh", name := "tell", desc := "(III)I" } : Jvm.MethodName)) ∈ lw_all := lw_g (lw_at lw_m2 65 rfl) rfl
theorem q435 : (Jvm.Cond.code ({ cls := "EarthMesh", name := "tell", desc := "(III)I" } : Jvm.MethodName) prog_1_method_78_code (5 : Nat) (Option.some Jvm.ClassFile.FieldType.int)) ∈ lw_all := lw_g (lw_at lw_m2 66 rfl) rfl
theorem q436 : (Jvm.Cond.methodLink "EarthMesh" (293 : Nat) ({ cls := "EarthMesh", name := "isNode", desc := "(I)Z" } : Jvm.MethodName)) ∈ lw_all := lw_g (lw_at lw_m2 67 rfl) rfl
theorem q437 : (Jvm.Cond.privateMethod ({ cls := "EarthMesh", name := "isNode", desc := "(I)Z" } : Jvm.MethodName)) ∈ lw_tbl := lw_at lw_m2 68 rfl
theorem q438 : (Jvm.Cond.instanceMethod ({ cls := "EarthMesh", name := "isNode", desc := "(I)Z" } : Jvm.MethodName)) ∈ lw_all := lw_g (lw_at lw_m2 69 rfl) rfl
theorem q439 : (Jvm.Cond.code ({ cls := "EarthMesh", name := "isNode", desc := "(I)Z" } : Jvm.MethodName) prog_1_method_29_code (2 : Nat) (Option.some Jvm.ClassFile.FieldType.boolean)) ∈ lw_all := lw_g (lw_at lw_m2 70 rfl) rfl
theorem q440 : (Jvm.Cond.methodLink "EarthMesh" (55 : Nat) ({ cls := "EarthMesh$Mesh", name := "nodes", desc := "()I" } : Jvm.MethodName)) ∈ lw_all := lw_g (lw_at lw_m2 71 rfl) rfl
theorem q444 : (Jvm.Cond.methodLink "EarthMesh" (253 : Nat) ({ cls := "EarthMesh", name := "within", desc := "(III)Z" } : Jvm.MethodName)) ∈ lw_all := lw_g (lw_at lw_m2 75 rfl) rfl
theorem q445 : (Jvm.Cond.static ({ cls := "EarthMesh", name := "within", desc := "(III)Z" } : Jvm.MethodName)) ∈ lw_all := lw_g (lw_at lw_m2 76 rfl) rfl
theorem q446 : (Jvm.Cond.code ({ cls := "EarthMesh", name := "within", desc := "(III)Z" } : Jvm.MethodName) prog_1_method_18_code (3 : Nat) (Option.some Jvm.ClassFile.FieldType.boolean)) ∈ lw_all := lw_g (lw_at lw_m2 77 rfl) rfl
theorem q447 : (Jvm.Cond.methodLink "EarthMesh" (422 : Nat) ({ cls := "EarthMesh$Mesh", name := "hasPlace", desc := "(II)Z" } : Jvm.MethodName)) ∈ lw_all := lw_g (lw_at lw_m2 78 rfl) rfl
theorem q452 : (Jvm.Cond.instanceMethod ({ cls := "EarthMesh", name := "comes", desc := "(II)I" } : Jvm.MethodName)) ∈ lw_all := lw_g (lw_at lw_m2 83 rfl) rfl
theorem q453 : (Jvm.Cond.selects "EarthMesh" ({ cls := "EarthMesh", name := "comes", desc := "(II)I" } : Jvm.MethodName) ({ cls := "EarthMesh", name := "comes", desc := "(II)I" } : Jvm.MethodName)) ∈ lw_all := lw_g (lw_at lw_m2 84 rfl) rfl
theorem q454 : (Jvm.Cond.code ({ cls := "EarthMesh", name := "comes", desc := "(II)I" } : Jvm.MethodName) prog_1_method_79_code (4 : Nat) (Option.some Jvm.ClassFile.FieldType.int)) ∈ lw_all := lw_g (lw_at lw_m2 85 rfl) rfl
theorem q456 : (Jvm.Cond.instanceMethod ({ cls := "EarthMesh", name := "put", desc := "(IZI)I" } : Jvm.MethodName)) ∈ lw_all := lw_g (lw_at lw_m2 87 rfl) rfl
theorem q457 : (Jvm.Cond.selects "EarthMesh" ({ cls := "EarthMesh", name := "put", desc := "(IZI)I" } : Jvm.MethodName) ({ cls := "EarthMesh", name := "put", desc := "(IZI)I" } : Jvm.MethodName)) ∈ lw_all := lw_g (lw_at lw_m2 88 rfl) rfl
theorem q458 : (Jvm.Cond.code ({ cls := "EarthMesh", name := "put", desc := "(IZI)I" } : Jvm.MethodName) prog_1_method_81_code (6 : Nat) (Option.some Jvm.ClassFile.FieldType.int)) ∈ lw_all := lw_g (lw_at lw_m2 89 rfl) rfl
theorem q459 : (Jvm.Cond.methodLink "EarthMesh" (443 : Nat) ({ cls := "EarthMesh", name := "bin", desc := "(I)LEarthMesh$Bin;" } : Jvm.MethodName)) ∈ lw_all := lw_g (lw_at lw_m2 90 rfl) rfl
theorem q460 : (Jvm.Cond.privateMethod ({ cls := "EarthMesh", name := "bin", desc := "(I)LEarthMesh$Bin;" } : Jvm.MethodName)) ∈ lw_tbl := lw_at lw_m2 91 rfl
theorem q461 : (Jvm.Cond.instanceMethod ({ cls := "EarthMesh", name := "bin", desc := "(I)LEarthMesh$Bin;" } : Jvm.MethodName)) ∈ lw_all := lw_g (lw_at lw_m2 92 rfl) rfl
theorem q462 : (Jvm.Cond.code ({ cls := "EarthMesh", name := "bin", desc := "(I)LEarthMesh$Bin;" } : Jvm.MethodName) prog_1_method_80_code (2 : Nat) (Option.some (Jvm.ClassFile.FieldType.object "EarthMesh$Bin"))) ∈ lw_all := lw_g (lw_at lw_m2 93 rfl) rfl
theorem q463 : (Jvm.Cond.methodLink "EarthMesh" (447 : Nat) ({ cls := "EarthMesh$Bin", name := "firstEmpty", desc := "()I" } : Jvm.MethodName)) ∈ lw_all := lw_g (lw_at lw_m2 94 rfl) rfl
theorem q467 : (Jvm.Cond.classLink "EarthMesh" (450 : Nat) "EarthMesh$Bar") ∈ lw_all := lw_g (lw_at lw_m2 98 rfl) rfl
theorem q469 : (Jvm.Cond.methodLink "EarthMesh" (452 : Nat) ({ cls := "EarthMesh$Bar", name := "<init>", desc := "(I)V" } : Jvm.MethodName)) ∈ lw_all := lw_g (lw_at lw_m2 100 rfl) rfl
theorem q478 : (Jvm.Cond.classLink "EarthMesh" (454 : Nat) "EarthMesh$Rod") ∈ lw_all := lw_g (lw_at lw_m2 109 rfl) rfl
theorem q480 : (Jvm.Cond.methodLink "EarthMesh" (456 : Nat) ({ cls := "EarthMesh$Rod", name := "<init>", desc := "(I)V" } : Jvm.MethodName)) ∈ lw_all := lw_g (lw_at lw_m2 111 rfl) rfl
theorem q489 : (Jvm.Cond.methodLink "EarthMesh" (457 : Nat) ({ cls := "EarthMesh$Bin", name := "puts", desc := "(ILjava/lang/Object;)Z" } : Jvm.MethodName)) ∈ lw_all := lw_g (lw_at lw_m2 120 rfl) rfl
theorem q567 : (Jvm.Cond.instanceMethod ({ cls := "EarthMesh", name := "build", desc := "(IIIZ)I" } : Jvm.MethodName)) ∈ lw_all := lw_g (lw_at lw_m2 198 rfl) rfl
theorem q568 : (Jvm.Cond.selects "EarthMesh" ({ cls := "EarthMesh", name := "build", desc := "(IIIZ)I" } : Jvm.MethodName) ({ cls := "EarthMesh", name := "build", desc := "(IIIZ)I" } : Jvm.MethodName)) ∈ lw_all := lw_g (lw_at lw_m2 199 rfl) rfl
theorem q569 : (Jvm.Cond.code ({ cls := "EarthMesh", name := "build", desc := "(IIIZ)I" } : Jvm.MethodName) prog_1_method_83_code (7 : Nat) (Option.some Jvm.ClassFile.FieldType.int)) ∈ lw_all := lw_g (lw_at lw_m2 200 rfl) rfl
theorem q570 : (Jvm.Cond.methodLink "EarthMesh" (461 : Nat) ({ cls := "EarthMesh$Bin", name := "sizeOf", desc := "(I)I" } : Jvm.MethodName)) ∈ lw_all := lw_g (lw_at lw_m2 201 rfl) rfl
theorem q574 : (Jvm.Cond.methodLink "EarthMesh" (464 : Nat) ({ cls := "EarthMesh$Bin", name := "empties", desc := "(I)V" } : Jvm.MethodName)) ∈ lw_all := lw_g (lw_at lw_m2 205 rfl) rfl
theorem q583 : (Jvm.Cond.instanceMethod ({ cls := "EarthMesh", name := "mesh", desc := "(I)I" } : Jvm.MethodName)) ∈ lw_all := lw_g (lw_at lw_m2 214 rfl) rfl
theorem q584 : (Jvm.Cond.selects "EarthMesh" ({ cls := "EarthMesh", name := "mesh", desc := "(I)I" } : Jvm.MethodName) ({ cls := "EarthMesh", name := "mesh", desc := "(I)I" } : Jvm.MethodName)) ∈ lw_all := lw_g (lw_at lw_m2 215 rfl) rfl
theorem q585 : (Jvm.Cond.codeWith ({ cls := "EarthMesh", name := "mesh", desc := "(I)I" } : Jvm.MethodName) prog_1_method_21_code (3 : Nat) (Option.some Jvm.ClassFile.FieldType.int) [((30 : Nat), (47 : Nat), (48 : Nat), (222 : Nat))]) ∈ lw_all := lw_g (lw_at lw_m2 216 rfl) rfl
theorem q586 : (Jvm.Cond.classLink "EarthMesh" (222 : Nat) "EarthMesh$Fault") ∈ lw_all := lw_g (lw_at lw_m2 217 rfl) rfl
theorem q587 : (Jvm.Cond.methodLink "EarthMesh" (211 : Nat) ({ cls := "EarthMesh", name := "right", desc := "(Z)V" } : Jvm.MethodName)) ∈ lw_all := lw_g (lw_at lw_m2 218 rfl) rfl
theorem q588 : (Jvm.Cond.static ({ cls := "EarthMesh", name := "right", desc := "(Z)V" } : Jvm.MethodName)) ∈ lw_all := lw_g (lw_at lw_m2 219 rfl) rfl
theorem q589 : (Jvm.Cond.code ({ cls := "EarthMesh", name := "right", desc := "(Z)V" } : Jvm.MethodName) prog_1_method_16_code (1 : Nat) (Option.none : Option Jvm.ClassFile.FieldType)) ∈ lw_all := lw_g (lw_at lw_m2 220 rfl) rfl
theorem q590 : (Jvm.Cond.classLink "EarthMesh" (196 : Nat) "java/lang/IllegalArgumentException") ∈ lw_all := lw_g (lw_at lw_m2 221 rfl) rfl
theorem q599 : (Jvm.Cond.methodLink "EarthMesh" (198 : Nat) ({ cls := "java/lang/IllegalArgumentException", name := "<init>", desc := "()V" } : Jvm.MethodName)) ∈ lw_all := lw_g (lw_at lw_m2 230 rfl) rfl
theorem q611 : (Jvm.Cond.classLink "EarthMesh" (214 : Nat) "EarthMesh$Reader") ∈ lw_all := lw_g (lw_at lw_m3 2 rfl) rfl
theorem q613 : (Jvm.Cond.methodLink "EarthMesh" (216 : Nat) ({ cls := "EarthMesh$Reader", name := "<init>", desc := "(LEarthMesh;I)V" } : Jvm.MethodName)) ∈ lw_all := lw_g (lw_at lw_m3 4 rfl) rfl
theorem q938 : (Jvm.Cond.methodLink "EarthMesh" (219 : Nat) ({ cls := "EarthMesh$Reader", name := "whole", desc := "()LEarthMesh$Mesh;" } : Jvm.MethodName)) ∈ lw_all := lw_g (lw_at lw_m4 89 rfl) rfl
theorem q974 : (Jvm.Cond.fieldLinkNest "EarthMesh" (227 : Nat) "EarthMesh$Fault" "kind" "I" "EarthMesh") ∈ lw_tbl := lw_at lw_m4 125 rfl
theorem q976 : (Jvm.Cond.fieldLinkNest "EarthMesh" (224 : Nat) "EarthMesh$Fault" "place" "I" "EarthMesh") ∈ lw_tbl := lw_at lw_m4 127 rfl
theorem q1079 : (Jvm.Cond.instanceMethod ({ cls := "EarthMesh", name := "count", desc := "(I)I" } : Jvm.MethodName)) ∈ lw_all := lw_g (lw_at lw_m4 230 rfl) rfl
theorem q1080 : (Jvm.Cond.selects "EarthMesh" ({ cls := "EarthMesh", name := "count", desc := "(I)I" } : Jvm.MethodName) ({ cls := "EarthMesh", name := "count", desc := "(I)I" } : Jvm.MethodName)) ∈ lw_all := lw_g (lw_at lw_m4 231 rfl) rfl
theorem q1081 : (Jvm.Cond.code ({ cls := "EarthMesh", name := "count", desc := "(I)I" } : Jvm.MethodName) prog_1_method_28_code (2 : Nat) (Option.some Jvm.ClassFile.FieldType.int)) ∈ lw_all := lw_g (lw_at lw_m4 232 rfl) rfl
theorem q1082 : (Jvm.Cond.methodLink "EarthMesh" (257 : Nat) ({ cls := "EarthMesh", name := "there", desc := "(Z)V" } : Jvm.MethodName)) ∈ lw_all := lw_g (lw_at lw_m4 233 rfl) rfl
theorem q1083 : (Jvm.Cond.static ({ cls := "EarthMesh", name := "there", desc := "(Z)V" } : Jvm.MethodName)) ∈ lw_all := lw_g (lw_at lw_m4 234 rfl) rfl
theorem q1084 : (Jvm.Cond.code ({ cls := "EarthMesh", name := "there", desc := "(Z)V" } : Jvm.MethodName) prog_1_method_17_code (1 : Nat) (Option.none : Option Jvm.ClassFile.FieldType)) ∈ lw_all := lw_g (lw_at lw_m4 235 rfl) rfl
theorem q1085 : (Jvm.Cond.classLink "EarthMesh" (199 : Nat) "java/util/NoSuchElementException") ∈ lw_all := lw_g (lw_at lw_m4 236 rfl) rfl
theorem q1094 : (Jvm.Cond.methodLink "EarthMesh" (201 : Nat) ({ cls := "java/util/NoSuchElementException", name := "<init>", desc := "()V" } : Jvm.MethodName)) ∈ lw_all := lw_g (lw_at lw_m5 5 rfl) rfl
theorem q1100 : (Jvm.Cond.methodLink "EarthMesh" (13 : Nat) ({ cls := "EarthMesh$Mesh", name := "joined", desc := "(I)I" } : Jvm.MethodName)) ∈ lw_all := lw_g (lw_at lw_m5 11 rfl) rfl
theorem q1116 : (Jvm.Cond.methodLink "EarthMesh" (20 : Nat) ({ cls := "EarthMesh$Mesh", name := "floats", desc := "(I)Z" } : Jvm.MethodName)) ∈ lw_all := lw_g (lw_at lw_m5 27 rfl) rfl
theorem q1120 : (Jvm.Cond.methodLink "EarthMesh" (266 : Nat) ({ cls := "EarthMesh", name := "isSafe", desc := "()Z" } : Jvm.MethodName)) ∈ lw_all := lw_g (lw_at lw_m5 31 rfl) rfl
theorem q1121 : (Jvm.Cond.privateMethod ({ cls := "EarthMesh", name := "isSafe", desc := "()Z" } : Jvm.MethodName)) ∈ lw_tbl := lw_at lw_m5 32 rfl
theorem q1122 : (Jvm.Cond.instanceMethod ({ cls := "EarthMesh", name := "isSafe", desc := "()Z" } : Jvm.MethodName)) ∈ lw_all := lw_g (lw_at lw_m5 33 rfl) rfl
theorem q1123 : (Jvm.Cond.codeWith ({ cls := "EarthMesh", name := "isSafe", desc := "()Z" } : Jvm.MethodName) prog_1_method_14_code (2 : Nat) (Option.some Jvm.ClassFile.FieldType.boolean) [((0 : Nat), (39 : Nat), (40 : Nat), (24 : Nat))]) ∈ lw_all := lw_g (lw_at lw_m5 34 rfl) rfl
theorem q1124 : (Jvm.Cond.classLink "EarthMesh" (24 : Nat) "EarthMesh$Floats") ∈ lw_all := lw_g (lw_at lw_m5 35 rfl) rfl
theorem q1125 : (Jvm.Cond.methodLink "EarthMesh" (62 : Nat) ({ cls := "EarthMesh", name := "solves", desc := "()V" } : Jvm.MethodName)) ∈ lw_all := lw_g (lw_at lw_m5 36 rfl) rfl
theorem q1126 : (Jvm.Cond.privateMethod ({ cls := "EarthMesh", name := "solves", desc := "()V" } : Jvm.MethodName)) ∈ lw_tbl := lw_at lw_m5 37 rfl
theorem q1127 : (Jvm.Cond.instanceMethod ({ cls := "EarthMesh", name := "solves", desc := "()V" } : Jvm.MethodName)) ∈ lw_all := lw_g (lw_at lw_m5 38 rfl) rfl
theorem q1128 : (Jvm.Cond.code ({ cls := "EarthMesh", name := "solves", desc := "()V" } : Jvm.MethodName) prog_1_method_1_code (2 : Nat) (Option.none : Option Jvm.ClassFile.FieldType)) ∈ lw_all := lw_g (lw_at lw_m5 39 rfl) rfl
theorem q1137 : (Jvm.Cond.methodLink "EarthMesh" (26 : Nat) ({ cls := "EarthMesh$Floats", name := "<init>", desc := "()V" } : Jvm.MethodName)) ∈ lw_all := lw_g (lw_at lw_m5 48 rfl) rfl
theorem q1144 : (Jvm.Cond.methodLink "EarthMesh" (34 : Nat) ({ cls := "EarthMesh$Equations", name := "lays", desc := "(I)V" } : Jvm.MethodName)) ∈ lw_all := lw_g (lw_at lw_m5 55 rfl) rfl
theorem q1185 : (Jvm.Cond.methodLink "EarthMesh" (51 : Nat) ({ cls := "EarthMesh$Equations", name := "linesOf", desc := "(I[J)V" } : Jvm.MethodName)) ∈ lw_all := lw_g (lw_at lw_m5 96 rfl) rfl
theorem q1201 : (Jvm.Cond.methodLink "EarthMesh" (137 : Nat) ({ cls := "EarthMesh", name := "isWithin", desc := "(II)Z" } : Jvm.MethodName)) ∈ lw_all := lw_g (lw_at lw_m5 112 rfl) rfl
theorem q1202 : (Jvm.Cond.privateMethod ({ cls := "EarthMesh", name := "isWithin", desc := "(II)Z" } : Jvm.MethodName)) ∈ lw_tbl := lw_at lw_m5 113 rfl
theorem q1203 : (Jvm.Cond.instanceMethod ({ cls := "EarthMesh", name := "isWithin", desc := "(II)Z" } : Jvm.MethodName)) ∈ lw_all := lw_g (lw_at lw_m5 114 rfl) rfl
theorem q1204 : (Jvm.Cond.code ({ cls := "EarthMesh", name := "isWithin", desc := "(II)Z" } : Jvm.MethodName) prog_1_method_13_code (4 : Nat) (Option.some Jvm.ClassFile.FieldType.boolean)) ∈ lw_all := lw_g (lw_at lw_m5 115 rfl) rfl
theorem q1205 : (Jvm.Cond.methodLink "EarthMesh" (129 : Nat) ({ cls := "EarthMesh", name := "most", desc := "(I)I" } : Jvm.MethodName)) ∈ lw_all := lw_g (lw_at lw_m5 116 rfl) rfl
theorem q1206 : (Jvm.Cond.privateMethod ({ cls := "EarthMesh", name := "most", desc := "(I)I" } : Jvm.MethodName)) ∈ lw_tbl := lw_at lw_m5 117 rfl
theorem q1207 : (Jvm.Cond.instanceMethod ({ cls := "EarthMesh", name := "most", desc := "(I)I" } : Jvm.MethodName)) ∈ lw_all := lw_g (lw_at lw_m5 118 rfl) rfl
theorem q1208 : (Jvm.Cond.code ({ cls := "EarthMesh", name := "most", desc := "(I)I" } : Jvm.MethodName) prog_1_method_12_code (11 : Nat) (Option.some Jvm.ClassFile.FieldType.int)) ∈ lw_all := lw_g (lw_at lw_m5 119 rfl) rfl
theorem q1209 : (Jvm.Cond.methodLink "EarthMesh" (122 : Nat) ({ cls := "EarthMesh", name := "points", desc := "()I" } : Jvm.MethodName)) ∈ lw_all := lw_g (lw_at lw_m5 120 rfl) rfl
theorem q1210 : (Jvm.Cond.privateMethod ({ cls := "EarthMesh", name := "points", desc := "()I" } : Jvm.MethodName)) ∈ lw_tbl := lw_at lw_m5 121 rfl
theorem q1211 : (Jvm.Cond.instanceMethod ({ cls := "EarthMesh", name := "points", desc := "()I" } : Jvm.MethodName)) ∈ lw_all := lw_g (lw_at lw_m5 122 rfl) rfl
theorem q1212 : (Jvm.Cond.code ({ cls := "EarthMesh", name := "points", desc := "()I" } : Jvm.MethodName) prog_1_method_5_code (1 : Nat) (Option.some Jvm.ClassFile.FieldType.int)) ∈ lw_all := lw_g (lw_at lw_m5 123 rfl) rfl
theorem q1213 : (Jvm.Cond.interfaceEntry "EarthMesh" (125 : Nat)) ∈ lw_tbl := lw_at lw_m5 124 rfl
theorem q1214 : (Jvm.Cond.methodLink "EarthMesh" (125 : Nat) ({ cls := "EarthMesh$Measure", name := "of", desc := "(I)J" } : Jvm.MethodName)) ∈ lw_all := lw_g (lw_at lw_m5 125 rfl) rfl
theorem q1217 : (Jvm.Cond.constantLong "EarthMesh" (132 : Nat) (4 : Int64)) ∈ lw_all := lw_g (lw_at lw_m5 128 rfl) rfl
theorem q1218 : (Jvm.Cond.methodLink "EarthMesh" (270 : Nat) ({ cls := "EarthMesh", name := "missed", desc := "()I" } : Jvm.MethodName)) ∈ lw_all := lw_g (lw_at lw_m5 129 rfl) rfl
theorem q1219 : (Jvm.Cond.privateMethod ({ cls := "EarthMesh", name := "missed", desc := "()I" } : Jvm.MethodName)) ∈ lw_tbl := lw_at lw_m5 130 rfl
theorem q1220 : (Jvm.Cond.instanceMethod ({ cls := "EarthMesh", name := "missed", desc := "()I" } : Jvm.MethodName)) ∈ lw_all := lw_g (lw_at lw_m5 131 rfl) rfl
theorem q1221 : (Jvm.Cond.code ({ cls := "EarthMesh", name := "missed", desc := "()I" } : Jvm.MethodName) prog_1_method_27_code (6 : Nat) (Option.some Jvm.ClassFile.FieldType.int)) ∈ lw_all := lw_g (lw_at lw_m5 132 rfl) rfl
theorem q1222 : (Jvm.Cond.methodLink "EarthMesh" (246 : Nat) ({ cls := "EarthMesh", name := "resistsWithout", desc := "(II)LEarthMesh$Part;" } : Jvm.MethodName)) ∈ lw_all := lw_g (lw_at lw_m5 133 rfl) rfl
theorem q1223 : (Jvm.Cond.privateMethod ({ cls := "EarthMesh", name := "resistsWithout", desc := "(II)LEarthMesh$Part;" } : Jvm.MethodName)) ∈ lw_tbl := lw_at lw_m5 134 rfl
theorem q1224 : (Jvm.Cond.instanceMethod ({ cls := "EarthMesh", name := "resistsWithout", desc := "(II)LEarthMesh$Part;" } : Jvm.MethodName)) ∈ lw_all := lw_g (lw_at lw_m5 135 rfl) rfl
theorem q1225 : (Jvm.Cond.code ({ cls := "EarthMesh", name := "resistsWithout", desc := "(II)LEarthMesh$Part;" } : Jvm.MethodName) prog_1_method_26_code (5 : Nat) (Option.some (Jvm.ClassFile.FieldType.object "EarthMesh$Part"))) ∈ lw_all := lw_g (lw_at lw_m5 136 rfl) rfl
theorem q1226 : (Jvm.Cond.methodLink "EarthMesh" (242 : Nat) ({ cls := "EarthMesh", name := "resistsNow", desc := "()LEarthMesh$Part;" } : Jvm.MethodName)) ∈ lw_all := lw_g (lw_at lw_m5 137 rfl) rfl
theorem q1227 : (Jvm.Cond.privateMethod ({ cls := "EarthMesh", name := "resistsNow", desc := "()LEarthMesh$Part;" } : Jvm.MethodName)) ∈ lw_tbl := lw_at lw_m5 138 rfl
theorem q1228 : (Jvm.Cond.instanceMethod ({ cls := "EarthMesh", name := "resistsNow", desc := "()LEarthMesh$Part;" } : Jvm.MethodName)) ∈ lw_all := lw_g (lw_at lw_m5 139 rfl) rfl
theorem q1229 : (Jvm.Cond.codeWith ({ cls := "EarthMesh", name := "resistsNow", desc := "()LEarthMesh$Part;" } : Jvm.MethodName) prog_1_method_25_code (2 : Nat) (Option.some (Jvm.ClassFile.FieldType.object "EarthMesh$Part")) [((0 : Nat), (11 : Nat), (12 : Nat), (24 : Nat))]) ∈ lw_all := lw_g (lw_at lw_m5 140 rfl) rfl
theorem q1230 : (Jvm.Cond.methodLink "EarthMesh" (234 : Nat) ({ cls := "EarthMesh", name := "resists", desc := "(I)LEarthMesh$Part;" } : Jvm.MethodName)) ∈ lw_all := lw_g (lw_at lw_m5 141 rfl) rfl
theorem q1231 : (Jvm.Cond.privateMethod ({ cls := "EarthMesh", name := "resists", desc := "(I)LEarthMesh$Part;" } : Jvm.MethodName)) ∈ lw_tbl := lw_at lw_m5 142 rfl
theorem q1232 : (Jvm.Cond.instanceMethod ({ cls := "EarthMesh", name := "resists", desc := "(I)LEarthMesh$Part;" } : Jvm.MethodName)) ∈ lw_all := lw_g (lw_at lw_m5 143 rfl) rfl
theorem q1233 : (Jvm.Cond.code ({ cls := "EarthMesh", name := "resists", desc := "(I)LEarthMesh$Part;" } : Jvm.MethodName) prog_1_method_3_code (3 : Nat) (Option.some (Jvm.ClassFile.FieldType.object "EarthMesh$Part"))) ∈ lw_all := lw_g (lw_at lw_m5 144 rfl) rfl
theorem q1234 : (Jvm.Cond.classLink "EarthMesh" (68 : Nat) "EarthMesh$Part") ∈ lw_all := lw_g (lw_at lw_m5 145 rfl) rfl
theorem q1236 : (Jvm.Cond.methodLink "EarthMesh" (70 : Nat) ({ cls := "EarthMesh$Equations", name := "of", desc := "(II)J" } : Jvm.MethodName)) ∈ lw_all := lw_g (lw_at lw_m5 147 rfl) rfl
theorem q1240 : (Jvm.Cond.methodLink "EarthMesh" (74 : Nat) ({ cls := "EarthMesh$Part", name := "<init>", desc := "(JJ)V" } : Jvm.MethodName)) ∈ lw_all := lw_g (lw_at lw_m5 151 rfl) rfl
theorem q1255 : (Jvm.Cond.methodLink "EarthMesh" (250 : Nat) ({ cls := "EarthMesh", name := "isMore", desc := "(LEarthMesh$Part;LEarthMesh$Part;)Z" } : Jvm.MethodName)) ∈ lw_all := lw_g (lw_at lw_m5 166 rfl) rfl
theorem q1256 : (Jvm.Cond.static ({ cls := "EarthMesh", name := "isMore", desc := "(LEarthMesh$Part;LEarthMesh$Part;)Z" } : Jvm.MethodName)) ∈ lw_all := lw_g (lw_at lw_m5 167 rfl) rfl
theorem q1257 : (Jvm.Cond.code ({ cls := "EarthMesh", name := "isMore", desc := "(LEarthMesh$Part;LEarthMesh$Part;)Z" } : Jvm.MethodName) prog_1_method_24_code (2 : Nat) (Option.some Jvm.ClassFile.FieldType.boolean)) ∈ lw_all := lw_g (lw_at lw_m5 168 rfl) rfl
theorem q1258 : (Jvm.Cond.methodLink "EarthMesh" (230 : Nat) ({ cls := "EarthMesh$Part", name := "isMore", desc := "(LEarthMesh$Part;)Z" } : Jvm.MethodName)) ∈ lw_all := lw_g (lw_at lw_m5 169 rfl) rfl
theorem q1268 : (Jvm.Cond.methodLink "EarthMesh" (276 : Nat) ({ cls := "EarthMesh", name := "best", desc := "()I" } : Jvm.MethodName)) ∈ lw_all := lw_g (lw_at lw_m5 179 rfl) rfl
theorem q1269 : (Jvm.Cond.privateMethod ({ cls := "EarthMesh", name := "best", desc := "()I" } : Jvm.MethodName)) ∈ lw_tbl := lw_at lw_m5 180 rfl
theorem q1270 : (Jvm.Cond.instanceMethod ({ cls := "EarthMesh", name := "best", desc := "()I" } : Jvm.MethodName)) ∈ lw_all := lw_g (lw_at lw_m5 181 rfl) rfl
theorem q1271 : (Jvm.Cond.code ({ cls := "EarthMesh", name := "best", desc := "()I" } : Jvm.MethodName) prog_1_method_76_code (5 : Nat) (Option.some Jvm.ClassFile.FieldType.int)) ∈ lw_all := lw_g (lw_at lw_m5 182 rfl) rfl
theorem q1272 : (Jvm.Cond.methodLink "EarthMesh" (429 : Nat) ({ cls := "EarthMesh", name := "canAdd", desc := "(II)Z" } : Jvm.MethodName)) ∈ lw_all := lw_g (lw_at lw_m5 183 rfl) rfl
theorem q1273 : (Jvm.Cond.privateMethod ({ cls := "EarthMesh", name := "canAdd", desc := "(II)Z" } : Jvm.MethodName)) ∈ lw_tbl := lw_at lw_m5 184 rfl
theorem q1274 : (Jvm.Cond.instanceMethod ({ cls := "EarthMesh", name := "canAdd", desc := "(II)Z" } : Jvm.MethodName)) ∈ lw_all := lw_g (lw_at lw_m5 185 rfl) rfl
theorem q1275 : (Jvm.Cond.code ({ cls := "EarthMesh", name := "canAdd", desc := "(II)Z" } : Jvm.MethodName) prog_1_method_70_code (3 : Nat) (Option.some Jvm.ClassFile.FieldType.boolean)) ∈ lw_all := lw_g (lw_at lw_m5 186 rfl) rfl
theorem q1276 : (Jvm.Cond.methodLink "EarthMesh" (435 : Nat) ({ cls := "EarthMesh", name := "told", desc := "(I)I" } : Jvm.MethodName)) ∈ lw_all := lw_g (lw_at lw_m5 187 rfl) rfl
theorem q1277 : (Jvm.Cond.static ({ cls := "EarthMesh", name := "told", desc := "(I)I" } : Jvm.MethodName)) ∈ lw_all := lw_g (lw_at lw_m5 188 rfl) rfl
theorem q1278 : (Jvm.Cond.code ({ cls := "EarthMesh", name := "told", desc := "(I)I" } : Jvm.MethodName) prog_1_method_73_code (1 : Nat) (Option.some Jvm.ClassFile.FieldType.int)) ∈ lw_all := lw_g (lw_at lw_m5 189 rfl) rfl
theorem q1279 : (Jvm.Cond.methodLink "EarthMesh" (279 : Nat) ({ cls := "EarthMesh", name := "needed", desc := "(Z)I" } : Jvm.MethodName)) ∈ lw_all := lw_g (lw_at lw_m5 190 rfl) rfl
theorem q1280 : (Jvm.Cond.privateMethod ({ cls := "EarthMesh", name := "needed", desc := "(Z)I" } : Jvm.MethodName)) ∈ lw_tbl := lw_at lw_m5 191 rfl
theorem q1281 : (Jvm.Cond.instanceMethod ({ cls := "EarthMesh", name := "needed", desc := "(Z)I" } : Jvm.MethodName)) ∈ lw_all := lw_g (lw_at lw_m5 192 rfl) rfl
theorem q1282 : (Jvm.Cond.code ({ cls := "EarthMesh", name := "needed", desc := "(Z)I" } : Jvm.MethodName) prog_1_method_75_code (7 : Nat) (Option.some Jvm.ClassFile.FieldType.int)) ∈ lw_all := lw_g (lw_at lw_m5 193 rfl) rfl
theorem q1283 : (Jvm.Cond.methodLink "EarthMesh" (283 : Nat) ({ cls := "EarthMesh", name := "bars", desc := "()I" } : Jvm.MethodName)) ∈ lw_all := lw_g (lw_at lw_m5 194 rfl) rfl
theorem q1284 : (Jvm.Cond.privateMethod ({ cls := "EarthMesh", name := "bars", desc := "()I" } : Jvm.MethodName)) ∈ lw_tbl := lw_at lw_m5 195 rfl
theorem q1285 : (Jvm.Cond.instanceMethod ({ cls := "EarthMesh", name := "bars", desc := "()I" } : Jvm.MethodName)) ∈ lw_all := lw_g (lw_at lw_m5 196 rfl) rfl
theorem q1286 : (Jvm.Cond.code ({ cls := "EarthMesh", name := "bars", desc := "()I" } : Jvm.MethodName) prog_1_method_62_code (3 : Nat) (Option.some Jvm.ClassFile.FieldType.int)) ∈ lw_all := lw_g (lw_at lw_m5 197 rfl) rfl
theorem q1287 : (Jvm.Cond.methodLink "EarthMesh" (285 : Nat) ({ cls := "EarthMesh", name := "rods", desc := "()I" } : Jvm.MethodName)) ∈ lw_all := lw_g (lw_at lw_m5 198 rfl) rfl
theorem q1288 : (Jvm.Cond.privateMethod ({ cls := "EarthMesh", name := "rods", desc := "()I" } : Jvm.MethodName)) ∈ lw_tbl := lw_at lw_m5 199 rfl
theorem q1289 : (Jvm.Cond.instanceMethod ({ cls := "EarthMesh", name := "rods", desc := "()I" } : Jvm.MethodName)) ∈ lw_all := lw_g (lw_at lw_m5 200 rfl) rfl
theorem q1290 : (Jvm.Cond.code ({ cls := "EarthMesh", name := "rods", desc := "()I" } : Jvm.MethodName) prog_1_method_63_code (3 : Nat) (Option.some Jvm.ClassFile.FieldType.int)) ∈ lw_all := lw_g (lw_at lw_m5 201 rfl) rfl
theorem q1291 : (Jvm.Cond.methodLink "EarthMesh" (287 : Nat) ({ cls := "EarthMesh", name := "limit", desc := "()I" } : Jvm.MethodName)) ∈ lw_all := lw_g (lw_at lw_m5 202 rfl) rfl
theorem q1292 : (Jvm.Cond.privateMethod ({ cls := "EarthMesh", name := "limit", desc := "()I" } : Jvm.MethodName)) ∈ lw_tbl := lw_at lw_m5 203 rfl
theorem q1293 : (Jvm.Cond.instanceMethod ({ cls := "EarthMesh", name := "limit", desc := "()I" } : Jvm.MethodName)) ∈ lw_all := lw_g (lw_at lw_m5 204 rfl) rfl
theorem q1294 : (Jvm.Cond.code ({ cls := "EarthMesh", name := "limit", desc := "()I" } : Jvm.MethodName) prog_1_method_56_code (3 : Nat) (Option.some Jvm.ClassFile.FieldType.int)) ∈ lw_all := lw_g (lw_at lw_m5 205 rfl) rfl
theorem q1295 : (Jvm.Cond.methodLink "EarthMesh" (290 : Nat) ({ cls := "EarthMesh", name := "thinned", desc := "(Z)I" } : Jvm.MethodName)) ∈ lw_all := lw_g (lw_at lw_m5 206 rfl) rfl
theorem q1296 : (Jvm.Cond.privateMethod ({ cls := "EarthMesh", name := "thinned", desc := "(Z)I" } : Jvm.MethodName)) ∈ lw_tbl := lw_at lw_m5 207 rfl
theorem q1297 : (Jvm.Cond.instanceMethod ({ cls := "EarthMesh", name := "thinned", desc := "(Z)I" } : Jvm.MethodName)) ∈ lw_all := lw_g (lw_at lw_m5 208 rfl) rfl
theorem q1298 : (Jvm.Cond.code ({ cls := "EarthMesh", name := "thinned", desc := "(Z)I" } : Jvm.MethodName) prog_1_method_57_code (7 : Nat) (Option.some Jvm.ClassFile.FieldType.int)) ∈ lw_all := lw_g (lw_at lw_m5 209 rfl) rfl
theorem q1299 : (Jvm.Cond.methodLink "EarthMesh" (392 : Nat) ({ cls := "EarthMesh", name := "rows", desc := "()[[I" } : Jvm.MethodName)) ∈ lw_all := lw_g (lw_at lw_m5 210 rfl) rfl
theorem q1300 : (Jvm.Cond.privateMethod ({ cls := "EarthMesh", name := "rows", desc := "()[[I" } : Jvm.MethodName)) ∈ lw_tbl := lw_at lw_m5 211 rfl
theorem q1301 : (Jvm.Cond.instanceMethod ({ cls := "EarthMesh", name := "rows", desc := "()[[I" } : Jvm.MethodName)) ∈ lw_all := lw_g (lw_at lw_m5 212 rfl) rfl
theorem q1302 : (Jvm.Cond.code ({ cls := "EarthMesh", name := "rows", desc := "()[[I" } : Jvm.MethodName) prog_1_method_65_code (3 : Nat) (Option.some (Jvm.ClassFile.FieldType.array (Jvm.ClassFile.FieldType.array Jvm.ClassFile.FieldType.int)))) ∈ lw_all := lw_g (lw_at lw_m5 213 rfl) rfl
theorem q1303 : (Jvm.Cond.classLink "EarthMesh" (405 : Nat) "[I") ∈ lw_all := lw_g (lw_at lw_m5 214 rfl) rfl
theorem q1304 : (Jvm.Cond.methodLink "EarthMesh" (406 : Nat) ({ cls := "[I", name := "clone", desc := "()Ljava/lang/Object;" } : Jvm.MethodName)) ∈ lw_all := lw_g (lw_at lw_m5 215 rfl) rfl
theorem q1312 : (Jvm.Cond.instanceMethod ({ cls := "EarthMesh", name := "node", desc := "(II)I" } : Jvm.MethodName)) ∈ lw_all := lw_g (lw_at lw_m5 223 rfl) rfl
theorem q1313 : (Jvm.Cond.selects "EarthMesh" ({ cls := "EarthMesh", name := "node", desc := "(II)I" } : Jvm.MethodName) ({ cls := "EarthMesh", name := "node", desc := "(II)I" } : Jvm.MethodName)) ∈ lw_all := lw_g (lw_at lw_m5 224 rfl) rfl
theorem q1314 : (Jvm.Cond.code ({ cls := "EarthMesh", name := "node", desc := "(II)I" } : Jvm.MethodName) prog_1_method_30_code (3 : Nat) (Option.some Jvm.ClassFile.FieldType.int)) ∈ lw_all := lw_g (lw_at lw_m5 225 rfl) rfl
theorem q1320 : (Jvm.Cond.instanceMethod ({ cls := "EarthMesh", name := "at", desc := "(IIZ)J" } : Jvm.MethodName)) ∈ lw_all := lw_g (lw_at lw_m5 231 rfl) rfl
theorem q1321 : (Jvm.Cond.selects "EarthMesh" ({ cls := "EarthMesh", name := "at", desc := "(IIZ)J" } : Jvm.MethodName) ({ cls := "EarthMesh", name := "at", desc := "(IIZ)J" } : Jvm.MethodName)) ∈ lw_all := lw_g (lw_at lw_m5 232 rfl) rfl
theorem q1322 : (Jvm.Cond.code ({ cls := "EarthMesh", name := "at", desc := "(IIZ)J" } : Jvm.MethodName) prog_1_method_32_code (6 : Nat) (Option.some Jvm.ClassFile.FieldType.long)) ∈ lw_all := lw_g (lw_at lw_m5 233 rfl) rfl
theorem q1323 : (Jvm.Cond.methodLink "EarthMesh" (299 : Nat) ({ cls := "EarthMesh", name := "resistsTold", desc := "(I)LEarthMesh$Part;" } : Jvm.MethodName)) ∈ lw_all := lw_g (lw_at lw_m5 234 rfl) rfl
theorem q1324 : (Jvm.Cond.privateMethod ({ cls := "EarthMesh", name := "resistsTold", desc := "(I)LEarthMesh$Part;" } : Jvm.MethodName)) ∈ lw_tbl := lw_at lw_m5 235 rfl
theorem q1325 : (Jvm.Cond.instanceMethod ({ cls := "EarthMesh", name := "resistsTold", desc := "(I)LEarthMesh$Part;" } : Jvm.MethodName)) ∈ lw_all := lw_g (lw_at lw_m5 236 rfl) rfl
theorem q1326 : (Jvm.Cond.codeWith ({ cls := "EarthMesh", name := "resistsTold", desc := "(I)LEarthMesh$Part;" } : Jvm.MethodName) prog_1_method_33_code (3 : Nat) (Option.some (Jvm.ClassFile.FieldType.object "EarthMesh$Part")) [((0 : Nat), (5 : Nat), (6 : Nat), (24 : Nat))]) ∈ lw_all := lw_g (lw_at lw_m5 237 rfl) rfl
theorem q1327 : (Jvm.Cond.classLink "EarthMesh" (65 : Nat) "java/lang/IllegalStateException") ∈ lw_all := lw_g (lw_at lw_m5 238 rfl) rfl
theorem q1336 : (Jvm.Cond.methodLink "EarthMesh" (67 : Nat) ({ cls := "java/lang/IllegalStateException", name := "<init>", desc := "()V" } : Jvm.MethodName)) ∈ lw_all := lw_g (lw_at lw_m6 7 rfl) rfl
theorem q1342 : (Jvm.Cond.methodLink "EarthMesh" (302 : Nat) ({ cls := "EarthMesh$Part", name := "told", desc := "(Z)J" } : Jvm.MethodName)) ∈ lw_all := lw_g (lw_at lw_m6 13 rfl) rfl
theorem q1346 : (Jvm.Cond.methodLink "EarthMesh" (306 : Nat) ({ cls := "EarthMesh", name := "mustSolve", desc := "()V" } : Jvm.MethodName)) ∈ lw_all := lw_g (lw_at lw_m6 17 rfl) rfl
theorem q1347 : (Jvm.Cond.privateMethod ({ cls := "EarthMesh", name := "mustSolve", desc := "()V" } : Jvm.MethodName)) ∈ lw_tbl := lw_at lw_m6 18 rfl
theorem q1348 : (Jvm.Cond.instanceMethod ({ cls := "EarthMesh", name := "mustSolve", desc := "()V" } : Jvm.MethodName)) ∈ lw_all := lw_g (lw_at lw_m6 19 rfl) rfl
theorem q1349 : (Jvm.Cond.codeWith ({ cls := "EarthMesh", name := "mustSolve", desc := "()V" } : Jvm.MethodName) prog_1_method_2_code (2 : Nat) (Option.none : Option Jvm.ClassFile.FieldType) [((0 : Nat), (4 : Nat), (7 : Nat), (24 : Nat))]) ∈ lw_all := lw_g (lw_at lw_m6 20 rfl) rfl
theorem q1350 : (Jvm.Cond.methodLink "EarthMesh" (309 : Nat) ({ cls := "EarthMesh", name := "flow", desc := "(II)J" } : Jvm.MethodName)) ∈ lw_all := lw_g (lw_at lw_m6 21 rfl) rfl
theorem q1351 : (Jvm.Cond.privateMethod ({ cls := "EarthMesh", name := "flow", desc := "(II)J" } : Jvm.MethodName)) ∈ lw_tbl := lw_at lw_m6 22 rfl
theorem q1352 : (Jvm.Cond.instanceMethod ({ cls := "EarthMesh", name := "flow", desc := "(II)J" } : Jvm.MethodName)) ∈ lw_all := lw_g (lw_at lw_m6 23 rfl) rfl
theorem q1353 : (Jvm.Cond.code ({ cls := "EarthMesh", name := "flow", desc := "(II)J" } : Jvm.MethodName) prog_1_method_31_code (3 : Nat) (Option.some Jvm.ClassFile.FieldType.long)) ∈ lw_all := lw_g (lw_at lw_m6 24 rfl) rfl
theorem q1354 : (Jvm.Cond.methodLink "EarthMesh" (296 : Nat) ({ cls := "EarthMesh$Mesh", name := "end", desc := "(II)I" } : Jvm.MethodName)) ∈ lw_all := lw_g (lw_at lw_m6 25 rfl) rfl
theorem q1359 : (Jvm.Cond.instanceMethod ({ cls := "EarthMesh", name := "bits", desc := "(IZ)J" } : Jvm.MethodName)) ∈ lw_all := lw_g (lw_at lw_m6 30 rfl) rfl
theorem q1360 : (Jvm.Cond.selects "EarthMesh" ({ cls := "EarthMesh", name := "bits", desc := "(IZ)J" } : Jvm.MethodName) ({ cls := "EarthMesh", name := "bits", desc := "(IZ)J" } : Jvm.MethodName)) ∈ lw_all := lw_g (lw_at lw_m6 31 rfl) rfl
theorem q1361 : (Jvm.Cond.code ({ cls := "EarthMesh", name := "bits", desc := "(IZ)J" } : Jvm.MethodName) prog_1_method_34_code (5 : Nat) (Option.some Jvm.ClassFile.FieldType.long)) ∈ lw_all := lw_g (lw_at lw_m6 32 rfl) rfl
theorem q1362 : (Jvm.Cond.methodLink "EarthMesh" (312 : Nat) ({ cls := "java/lang/Double", name := "doubleToLongBits", desc := "(D)J" } : Jvm.MethodName)) ∈ lw_all := lw_g (lw_at lw_m6 33 rfl) rfl
theorem q1372 : (Jvm.Cond.methodLink "EarthMesh" (318 : Nat) ({ cls := "java/lang/Float", name := "floatToIntBits", desc := "(F)I" } : Jvm.MethodName)) ∈ lw_all := lw_g (lw_at lw_m6 43 rfl) rfl
theorem q1386 : (Jvm.Cond.instanceMethod ({ cls := "EarthMesh", name := "ground", desc := "(IIZ)J" } : Jvm.MethodName)) ∈ lw_all := lw_g (lw_at lw_m6 57 rfl) rfl
theorem q1387 : (Jvm.Cond.selects "EarthMesh" ({ cls := "EarthMesh", name := "ground", desc := "(IIZ)J" } : Jvm.MethodName) ({ cls := "EarthMesh", name := "ground", desc := "(IIZ)J" } : Jvm.MethodName)) ∈ lw_all := lw_g (lw_at lw_m6 58 rfl) rfl
theorem q1388 : (Jvm.Cond.code ({ cls := "EarthMesh", name := "ground", desc := "(IIZ)J" } : Jvm.MethodName) prog_1_method_35_code (6 : Nat) (Option.some Jvm.ClassFile.FieldType.long)) ∈ lw_all := lw_g (lw_at lw_m6 59 rfl) rfl
theorem q1389 : (Jvm.Cond.methodLink "EarthMesh" (324 : Nat) ({ cls := "EarthMesh", name := "touch", desc := "(I)J" } : Jvm.MethodName)) ∈ lw_all := lw_g (lw_at lw_m6 60 rfl) rfl
theorem q1394 : (Jvm.Cond.instanceMethod ({ cls := "EarthMesh", name := "worst", desc := "(I)I" } : Jvm.MethodName)) ∈ lw_all := lw_g (lw_at lw_m6 65 rfl) rfl
theorem q1395 : (Jvm.Cond.selects "EarthMesh" ({ cls := "EarthMesh", name := "worst", desc := "(I)I" } : Jvm.MethodName) ({ cls := "EarthMesh", name := "worst", desc := "(I)I" } : Jvm.MethodName)) ∈ lw_all := lw_g (lw_at lw_m6 66 rfl) rfl
theorem q1396 : (Jvm.Cond.code ({ cls := "EarthMesh", name := "worst", desc := "(I)I" } : Jvm.MethodName) prog_1_method_36_code (2 : Nat) (Option.some Jvm.ClassFile.FieldType.int)) ∈ lw_all := lw_g (lw_at lw_m6 67 rfl) rfl
theorem q1401 : (Jvm.Cond.instanceMethod ({ cls := "EarthMesh", name := "box", desc := "(II)I" } : Jvm.MethodName)) ∈ lw_all := lw_g (lw_at lw_m6 72 rfl) rfl
theorem q1402 : (Jvm.Cond.selects "EarthMesh" ({ cls := "EarthMesh", name := "box", desc := "(II)I" } : Jvm.MethodName) ({ cls := "EarthMesh", name := "box", desc := "(II)I" } : Jvm.MethodName)) ∈ lw_all := lw_g (lw_at lw_m6 73 rfl) rfl
theorem q1403 : (Jvm.Cond.code ({ cls := "EarthMesh", name := "box", desc := "(II)I" } : Jvm.MethodName) prog_1_method_40_code (4 : Nat) (Option.some Jvm.ClassFile.FieldType.int)) ∈ lw_all := lw_g (lw_at lw_m6 74 rfl) rfl
theorem q1404 : (Jvm.Cond.methodLink "EarthMesh" (341 : Nat) ({ cls := "EarthMesh", name := "boxOf", desc := "(I)[I" } : Jvm.MethodName)) ∈ lw_all := lw_g (lw_at lw_m6 75 rfl) rfl
theorem q1405 : (Jvm.Cond.privateMethod ({ cls := "EarthMesh", name := "boxOf", desc := "(I)[I" } : Jvm.MethodName)) ∈ lw_tbl := lw_at lw_m6 76 rfl
theorem q1406 : (Jvm.Cond.instanceMethod ({ cls := "EarthMesh", name := "boxOf", desc := "(I)[I" } : Jvm.MethodName)) ∈ lw_all := lw_g (lw_at lw_m6 77 rfl) rfl
theorem q1407 : (Jvm.Cond.code ({ cls := "EarthMesh", name := "boxOf", desc := "(I)[I" } : Jvm.MethodName) prog_1_method_38_code (5 : Nat) (Option.some (Jvm.ClassFile.FieldType.array Jvm.ClassFile.FieldType.int))) ∈ lw_all := lw_g (lw_at lw_m6 78 rfl) rfl
theorem q1408 : (Jvm.Cond.constant "EarthMesh" (328 : Nat) (100000 : Int32)) ∈ lw_all := lw_g (lw_at lw_m6 79 rfl) rfl
theorem q1409 : (Jvm.Cond.methodLink "EarthMesh" (329 : Nat) ({ cls := "EarthMesh", name := "isAbove", desc := "(III)Z" } : Jvm.MethodName)) ∈ lw_all := lw_g (lw_at lw_m6 80 rfl) rfl
theorem q1410 : (Jvm.Cond.privateMethod ({ cls := "EarthMesh", name := "isAbove", desc := "(III)Z" } : Jvm.MethodName)) ∈ lw_tbl := lw_at lw_m6 81 rfl
theorem q1411 : (Jvm.Cond.instanceMethod ({ cls := "EarthMesh", name := "isAbove", desc := "(III)Z" } : Jvm.MethodName)) ∈ lw_all := lw_g (lw_at lw_m6 82 rfl) rfl
theorem q1412 : (Jvm.Cond.code ({ cls := "EarthMesh", name := "isAbove", desc := "(III)Z" } : Jvm.MethodName) prog_1_method_37_code (4 : Nat) (Option.some Jvm.ClassFile.FieldType.boolean)) ∈ lw_all := lw_g (lw_at lw_m6 83 rfl) rfl
theorem q1413 : (Jvm.Cond.methodLink "EarthMesh" (332 : Nat) ({ cls := "EarthMesh", name := "holds", desc := "([II)V" } : Jvm.MethodName)) ∈ lw_all := lw_g (lw_at lw_m6 84 rfl) rfl
theorem q1414 : (Jvm.Cond.privateMethod ({ cls := "EarthMesh", name := "holds", desc := "([II)V" } : Jvm.MethodName)) ∈ lw_tbl := lw_at lw_m6 85 rfl
theorem q1415 : (Jvm.Cond.instanceMethod ({ cls := "EarthMesh", name := "holds", desc := "([II)V" } : Jvm.MethodName)) ∈ lw_all := lw_g (lw_at lw_m6 86 rfl) rfl
theorem q1416 : (Jvm.Cond.code ({ cls := "EarthMesh", name := "holds", desc := "([II)V" } : Jvm.MethodName) prog_1_method_39_code (5 : Nat) (Option.none : Option Jvm.ClassFile.FieldType)) ∈ lw_all := lw_g (lw_at lw_m6 87 rfl) rfl
theorem q1417 : (Jvm.Cond.methodLink "EarthMesh" (336 : Nat) ({ cls := "java/lang/Math", name := "min", desc := "(II)I" } : Jvm.MethodName)) ∈ lw_all := lw_g (lw_at lw_m6 88 rfl) rfl
theorem q1418 : (Jvm.Cond.methodLink "EarthMesh" (339 : Nat) ({ cls := "java/lang/Math", name := "max", desc := "(II)I" } : Jvm.MethodName)) ∈ lw_all := lw_g (lw_at lw_m6 89 rfl) rfl
theorem q1423 : (Jvm.Cond.instanceMethod ({ cls := "EarthMesh", name := "reach", desc := "(I)I" } : Jvm.MethodName)) ∈ lw_all := lw_g (lw_at lw_m6 94 rfl) rfl
theorem q1424 : (Jvm.Cond.selects "EarthMesh" ({ cls := "EarthMesh", name := "reach", desc := "(I)I" } : Jvm.MethodName) ({ cls := "EarthMesh", name := "reach", desc := "(I)I" } : Jvm.MethodName)) ∈ lw_all := lw_g (lw_at lw_m6 95 rfl) rfl
theorem q1425 : (Jvm.Cond.code ({ cls := "EarthMesh", name := "reach", desc := "(I)I" } : Jvm.MethodName) prog_1_method_41_code (4 : Nat) (Option.some Jvm.ClassFile.FieldType.int)) ∈ lw_all := lw_g (lw_at lw_m6 96 rfl) rfl
theorem q1430 : (Jvm.Cond.instanceMethod ({ cls := "EarthMesh", name := "walk", desc := "(IIZ)J" } : Jvm.MethodName)) ∈ lw_all := lw_g (lw_at lw_m6 101 rfl) rfl
theorem q1431 : (Jvm.Cond.selects "EarthMesh" ({ cls := "EarthMesh", name := "walk", desc := "(IIZ)J" } : Jvm.MethodName) ({ cls := "EarthMesh", name := "walk", desc := "(IIZ)J" } : Jvm.MethodName)) ∈ lw_all := lw_g (lw_at lw_m6 102 rfl) rfl
theorem q1432 : (Jvm.Cond.code ({ cls := "EarthMesh", name := "walk", desc := "(IIZ)J" } : Jvm.MethodName) prog_1_method_48_code (4 : Nat) (Option.some Jvm.ClassFile.FieldType.long)) ∈ lw_all := lw_g (lw_at lw_m6 103 rfl) rfl
theorem q1433 : (Jvm.Cond.methodLink "EarthMesh" (371 : Nat) ({ cls := "EarthMesh", name := "pointsThere", desc := "(II)V" } : Jvm.MethodName)) ∈ lw_all := lw_g (lw_at lw_m6 104 rfl) rfl
theorem q1434 : (Jvm.Cond.privateMethod ({ cls := "EarthMesh", name := "pointsThere", desc := "(II)V" } : Jvm.MethodName)) ∈ lw_tbl := lw_at lw_m6 105 rfl
theorem q1435 : (Jvm.Cond.instanceMethod ({ cls := "EarthMesh", name := "pointsThere", desc := "(II)V" } : Jvm.MethodName)) ∈ lw_all := lw_g (lw_at lw_m6 106 rfl) rfl
theorem q1436 : (Jvm.Cond.code ({ cls := "EarthMesh", name := "pointsThere", desc := "(II)V" } : Jvm.MethodName) prog_1_method_47_code (3 : Nat) (Option.none : Option Jvm.ClassFile.FieldType)) ∈ lw_all := lw_g (lw_at lw_m6 107 rfl) rfl
theorem q1437 : (Jvm.Cond.methodLink "EarthMesh" (375 : Nat) ({ cls := "EarthMesh", name := "leastToll", desc := "(II)J" } : Jvm.MethodName)) ∈ lw_all := lw_g (lw_at lw_m6 108 rfl) rfl
theorem q1438 : (Jvm.Cond.privateMethod ({ cls := "EarthMesh", name := "leastToll", desc := "(II)J" } : Jvm.MethodName)) ∈ lw_tbl := lw_at lw_m6 109 rfl
theorem q1439 : (Jvm.Cond.instanceMethod ({ cls := "EarthMesh", name := "leastToll", desc := "(II)J" } : Jvm.MethodName)) ∈ lw_all := lw_g (lw_at lw_m6 110 rfl) rfl
theorem q1440 : (Jvm.Cond.code ({ cls := "EarthMesh", name := "leastToll", desc := "(II)J" } : Jvm.MethodName) prog_1_method_46_code (3 : Nat) (Option.some Jvm.ClassFile.FieldType.long)) ∈ lw_all := lw_g (lw_at lw_m6 111 rfl) rfl
theorem q1441 : (Jvm.Cond.constantLong "EarthMesh" (347 : Nat) (9223372036854775807 : Int64)) ∈ lw_all := lw_g (lw_at lw_m6 112 rfl) rfl
theorem q1442 : (Jvm.Cond.static ({ cls := "EarthMesh", name := "lambda$leastToll$1", desc := "(JJ)J" } : Jvm.MethodName)) ∈ lw_all := lw_g (lw_at lw_m6 113 rfl) rfl
theorem q1443 : (Jvm.Cond.code ({ cls := "EarthMesh", name := "lambda$leastToll$1", desc := "(JJ)J" } : Jvm.MethodName) prog_1_method_85_code (4 : Nat) (Option.some Jvm.ClassFile.FieldType.long)) ∈ lw_all := lw_g (lw_at lw_m6 114 rfl) rfl
theorem q1444 : (Jvm.Cond.methodLink "EarthMesh" (367 : Nat) ({ cls := "EarthMesh", name := "goes", desc := "(IJLEarthMesh$Toll;)V" } : Jvm.MethodName)) ∈ lw_all := lw_g (lw_at lw_m6 115 rfl) rfl
theorem q1445 : (Jvm.Cond.privateMethod ({ cls := "EarthMesh", name := "goes", desc := "(IJLEarthMesh$Toll;)V" } : Jvm.MethodName)) ∈ lw_tbl := lw_at lw_m6 116 rfl
theorem q1446 : (Jvm.Cond.instanceMethod ({ cls := "EarthMesh", name := "goes", desc := "(IJLEarthMesh$Toll;)V" } : Jvm.MethodName)) ∈ lw_all := lw_g (lw_at lw_m6 117 rfl) rfl
theorem q1447 : (Jvm.Cond.code ({ cls := "EarthMesh", name := "goes", desc := "(IJLEarthMesh$Toll;)V" } : Jvm.MethodName) prog_1_method_45_code (9 : Nat) (Option.none : Option Jvm.ClassFile.FieldType)) ∈ lw_all := lw_g (lw_at lw_m6 118 rfl) rfl
theorem q1448 : (Jvm.Cond.methodLink "EarthMesh" (349 : Nat) ({ cls := "EarthMesh", name := "begins", desc := "(I)V" } : Jvm.MethodName)) ∈ lw_all := lw_g (lw_at lw_m6 119 rfl) rfl
theorem q1449 : (Jvm.Cond.privateMethod ({ cls := "EarthMesh", name := "begins", desc := "(I)V" } : Jvm.MethodName)) ∈ lw_tbl := lw_at lw_m6 120 rfl
theorem q1450 : (Jvm.Cond.instanceMethod ({ cls := "EarthMesh", name := "begins", desc := "(I)V" } : Jvm.MethodName)) ∈ lw_all := lw_g (lw_at lw_m6 121 rfl) rfl
theorem q1451 : (Jvm.Cond.code ({ cls := "EarthMesh", name := "begins", desc := "(I)V" } : Jvm.MethodName) prog_1_method_42_code (3 : Nat) (Option.none : Option Jvm.ClassFile.FieldType)) ∈ lw_all := lw_g (lw_at lw_m6 122 rfl) rfl
theorem q1452 : (Jvm.Cond.methodLink "EarthMesh" (352 : Nat) ({ cls := "EarthMesh", name := "stepBetween", desc := "(II)J" } : Jvm.MethodName)) ∈ lw_all := lw_g (lw_at lw_m6 123 rfl) rfl
theorem q1453 : (Jvm.Cond.privateMethod ({ cls := "EarthMesh", name := "stepBetween", desc := "(II)J" } : Jvm.MethodName)) ∈ lw_tbl := lw_at lw_m6 124 rfl
theorem q1454 : (Jvm.Cond.instanceMethod ({ cls := "EarthMesh", name := "stepBetween", desc := "(II)J" } : Jvm.MethodName)) ∈ lw_all := lw_g (lw_at lw_m6 125 rfl) rfl
theorem q1455 : (Jvm.Cond.code ({ cls := "EarthMesh", name := "stepBetween", desc := "(II)J" } : Jvm.MethodName) prog_1_method_44_code (5 : Nat) (Option.some Jvm.ClassFile.FieldType.long)) ∈ lw_all := lw_g (lw_at lw_m6 126 rfl) rfl
theorem q1456 : (Jvm.Cond.interfaceEntry "EarthMesh" (355 : Nat)) ∈ lw_tbl := lw_at lw_m6 127 rfl
theorem q1457 : (Jvm.Cond.methodLink "EarthMesh" (355 : Nat) ({ cls := "EarthMesh$Toll", name := "of", desc := "(JJ)J" } : Jvm.MethodName)) ∈ lw_all := lw_g (lw_at lw_m6 128 rfl) rfl
theorem q1460 : (Jvm.Cond.methodLink "EarthMesh" (359 : Nat) ({ cls := "java/lang/Math", name := "min", desc := "(JJ)J" } : Jvm.MethodName)) ∈ lw_all := lw_g (lw_at lw_m6 131 rfl) rfl
theorem q1463 : (Jvm.Cond.methodLink "EarthMesh" (361 : Nat) ({ cls := "EarthMesh", name := "nearestLeft", desc := "()I" } : Jvm.MethodName)) ∈ lw_all := lw_g (lw_at lw_m6 134 rfl) rfl
theorem q1464 : (Jvm.Cond.privateMethod ({ cls := "EarthMesh", name := "nearestLeft", desc := "()I" } : Jvm.MethodName)) ∈ lw_tbl := lw_at lw_m6 135 rfl
theorem q1465 : (Jvm.Cond.instanceMethod ({ cls := "EarthMesh", name := "nearestLeft", desc := "()I" } : Jvm.MethodName)) ∈ lw_all := lw_g (lw_at lw_m6 136 rfl) rfl
theorem q1466 : (Jvm.Cond.code ({ cls := "EarthMesh", name := "nearestLeft", desc := "()I" } : Jvm.MethodName) prog_1_method_43_code (3 : Nat) (Option.some Jvm.ClassFile.FieldType.int)) ∈ lw_all := lw_g (lw_at lw_m6 137 rfl) rfl
theorem q1471 : (Jvm.Cond.instanceMethod ({ cls := "EarthMesh", name := "walked", desc := "(II)I" } : Jvm.MethodName)) ∈ lw_all := lw_g (lw_at lw_m6 142 rfl) rfl
theorem q1472 : (Jvm.Cond.selects "EarthMesh" ({ cls := "EarthMesh", name := "walked", desc := "(II)I" } : Jvm.MethodName) ({ cls := "EarthMesh", name := "walked", desc := "(II)I" } : Jvm.MethodName)) ∈ lw_all := lw_g (lw_at lw_m6 143 rfl) rfl
theorem q1473 : (Jvm.Cond.code ({ cls := "EarthMesh", name := "walked", desc := "(II)I" } : Jvm.MethodName) prog_1_method_49_code (3 : Nat) (Option.some Jvm.ClassFile.FieldType.int)) ∈ lw_all := lw_g (lw_at lw_m6 144 rfl) rfl
theorem q1474 : (Jvm.Cond.static ({ cls := "EarthMesh", name := "lambda$walked$2", desc := "(JJ)J" } : Jvm.MethodName)) ∈ lw_all := lw_g (lw_at lw_m6 145 rfl) rfl
theorem q1475 : (Jvm.Cond.code ({ cls := "EarthMesh", name := "lambda$walked$2", desc := "(JJ)J" } : Jvm.MethodName) prog_1_method_84_code (4 : Nat) (Option.some Jvm.ClassFile.FieldType.long)) ∈ lw_all := lw_g (lw_at lw_m6 146 rfl) rfl
theorem q1480 : (Jvm.Cond.instanceMethod ({ cls := "EarthMesh", name := "share", desc := "(I)I" } : Jvm.MethodName)) ∈ lw_all := lw_g (lw_at lw_m6 151 rfl) rfl
theorem q1481 : (Jvm.Cond.selects "EarthMesh" ({ cls := "EarthMesh", name := "share", desc := "(I)I" } : Jvm.MethodName) ({ cls := "EarthMesh", name := "share", desc := "(I)I" } : Jvm.MethodName)) ∈ lw_all := lw_g (lw_at lw_m6 152 rfl) rfl
theorem q1482 : (Jvm.Cond.code ({ cls := "EarthMesh", name := "share", desc := "(I)I" } : Jvm.MethodName) prog_1_method_59_code (2 : Nat) (Option.some Jvm.ClassFile.FieldType.int)) ∈ lw_all := lw_g (lw_at lw_m6 153 rfl) rfl
theorem q1483 : (Jvm.Cond.methodLink "EarthMesh" (396 : Nat) ({ cls := "EarthMesh", name := "laysShares", desc := "()V" } : Jvm.MethodName)) ∈ lw_all := lw_g (lw_at lw_m6 154 rfl) rfl
theorem q1484 : (Jvm.Cond.privateMethod ({ cls := "EarthMesh", name := "laysShares", desc := "()V" } : Jvm.MethodName)) ∈ lw_tbl := lw_at lw_m6 155 rfl
theorem q1485 : (Jvm.Cond.instanceMethod ({ cls := "EarthMesh", name := "laysShares", desc := "()V" } : Jvm.MethodName)) ∈ lw_all := lw_g (lw_at lw_m6 156 rfl) rfl
theorem q1486 : (Jvm.Cond.code ({ cls := "EarthMesh", name := "laysShares", desc := "()V" } : Jvm.MethodName) prog_1_method_58_code (5 : Nat) (Option.none : Option Jvm.ClassFile.FieldType)) ∈ lw_all := lw_g (lw_at lw_m6 157 rfl) rfl
theorem q1491 : (Jvm.Cond.instanceMethod ({ cls := "EarthMesh", name := "cascade", desc := "(I)I" } : Jvm.MethodName)) ∈ lw_all := lw_g (lw_at lw_m6 162 rfl) rfl
theorem q1492 : (Jvm.Cond.selects "EarthMesh" ({ cls := "EarthMesh", name := "cascade", desc := "(I)I" } : Jvm.MethodName) ({ cls := "EarthMesh", name := "cascade", desc := "(I)I" } : Jvm.MethodName)) ∈ lw_all := lw_g (lw_at lw_m6 163 rfl) rfl
theorem q1493 : (Jvm.Cond.code ({ cls := "EarthMesh", name := "cascade", desc := "(I)I" } : Jvm.MethodName) prog_1_method_66_code (3 : Nat) (Option.some Jvm.ClassFile.FieldType.int)) ∈ lw_all := lw_g (lw_at lw_m6 164 rfl) rfl
theorem q1494 : (Jvm.Cond.methodLink "EarthMesh" (410 : Nat) ({ cls := "EarthMesh", name := "falls", desc := "()V" } : Jvm.MethodName)) ∈ lw_all := lw_g (lw_at lw_m6 165 rfl) rfl
theorem q1495 : (Jvm.Cond.privateMethod ({ cls := "EarthMesh", name := "falls", desc := "()V" } : Jvm.MethodName)) ∈ lw_tbl := lw_at lw_m6 166 rfl
theorem q1496 : (Jvm.Cond.instanceMethod ({ cls := "EarthMesh", name := "falls", desc := "()V" } : Jvm.MethodName)) ∈ lw_all := lw_g (lw_at lw_m6 167 rfl) rfl
theorem q1497 : (Jvm.Cond.codeWith ({ cls := "EarthMesh", name := "falls", desc := "()V" } : Jvm.MethodName) prog_1_method_64_code (3 : Nat) (Option.none : Option Jvm.ClassFile.FieldType) [((14 : Nat), (42 : Nat), (55 : Nat), (24 : Nat)), ((14 : Nat), (42 : Nat), (76 : Nat), (0 : Nat)), ((55 : Nat), (63 : Nat), (76 : Nat), (0 : Nat))]) ∈ lw_all := lw_g (lw_at lw_m6 168 rfl) rfl
theorem q1498 : (Jvm.Cond.methodLink "EarthMesh" (402 : Nat) ({ cls := "EarthMesh", name := "melts", desc := "()Z" } : Jvm.MethodName)) ∈ lw_all := lw_g (lw_at lw_m6 169 rfl) rfl
theorem q1499 : (Jvm.Cond.privateMethod ({ cls := "EarthMesh", name := "melts", desc := "()Z" } : Jvm.MethodName)) ∈ lw_tbl := lw_at lw_m6 170 rfl
theorem q1500 : (Jvm.Cond.instanceMethod ({ cls := "EarthMesh", name := "melts", desc := "()Z" } : Jvm.MethodName)) ∈ lw_all := lw_g (lw_at lw_m6 171 rfl) rfl
theorem q1501 : (Jvm.Cond.code ({ cls := "EarthMesh", name := "melts", desc := "()Z" } : Jvm.MethodName) prog_1_method_61_code (4 : Nat) (Option.some Jvm.ClassFile.FieldType.boolean)) ∈ lw_all := lw_g (lw_at lw_m6 172 rfl) rfl
theorem q1502 : (Jvm.Cond.methodLink "EarthMesh" (399 : Nat) ({ cls := "EarthMesh", name := "isTooMuch", desc := "(II)Z" } : Jvm.MethodName)) ∈ lw_all := lw_g (lw_at lw_m6 173 rfl) rfl
theorem q1503 : (Jvm.Cond.privateMethod ({ cls := "EarthMesh", name := "isTooMuch", desc := "(II)Z" } : Jvm.MethodName)) ∈ lw_tbl := lw_at lw_m6 174 rfl
theorem q1504 : (Jvm.Cond.instanceMethod ({ cls := "EarthMesh", name := "isTooMuch", desc := "(II)Z" } : Jvm.MethodName)) ∈ lw_all := lw_g (lw_at lw_m6 175 rfl) rfl
theorem q1505 : (Jvm.Cond.code ({ cls := "EarthMesh", name := "isTooMuch", desc := "(II)Z" } : Jvm.MethodName) prog_1_method_60_code (3 : Nat) (Option.some Jvm.ClassFile.FieldType.boolean)) ∈ lw_all := lw_g (lw_at lw_m6 176 rfl) rfl
theorem q1510 : (Jvm.Cond.instanceMethod ({ cls := "EarthMesh", name := "sweep", desc := "(ZI)J" } : Jvm.MethodName)) ∈ lw_all := lw_g (lw_at lw_m6 181 rfl) rfl
theorem q1511 : (Jvm.Cond.selects "EarthMesh" ({ cls := "EarthMesh", name := "sweep", desc := "(ZI)J" } : Jvm.MethodName) ({ cls := "EarthMesh", name := "sweep", desc := "(ZI)J" } : Jvm.MethodName)) ∈ lw_all := lw_g (lw_at lw_m6 182 rfl) rfl
theorem q1512 : (Jvm.Cond.code ({ cls := "EarthMesh", name := "sweep", desc := "(ZI)J" } : Jvm.MethodName) prog_1_method_55_code (7 : Nat) (Option.some Jvm.ClassFile.FieldType.long)) ∈ lw_all := lw_g (lw_at lw_m6 183 rfl) rfl
theorem q1513 : (Jvm.Cond.methodLink "EarthMesh" (389 : Nat) ({ cls := "EarthMesh", name := "worstBy", desc := "(II)LEarthMesh$Part;" } : Jvm.MethodName)) ∈ lw_all := lw_g (lw_at lw_m6 184 rfl) rfl
theorem q1514 : (Jvm.Cond.privateMethod ({ cls := "EarthMesh", name := "worstBy", desc := "(II)LEarthMesh$Part;" } : Jvm.MethodName)) ∈ lw_tbl := lw_at lw_m6 185 rfl
theorem q1515 : (Jvm.Cond.instanceMethod ({ cls := "EarthMesh", name := "worstBy", desc := "(II)LEarthMesh$Part;" } : Jvm.MethodName)) ∈ lw_all := lw_g (lw_at lw_m6 186 rfl) rfl
theorem q1516 : (Jvm.Cond.codeWith ({ cls := "EarthMesh", name := "worstBy", desc := "(II)LEarthMesh$Part;" } : Jvm.MethodName) prog_1_method_54_code (7 : Nat) (Option.some (Jvm.ClassFile.FieldType.object "EarthMesh$Part")) [((16 : Nat), (27 : Nat), (38 : Nat), (24 : Nat)), ((16 : Nat), (27 : Nat), (54 : Nat), (0 : Nat)), ((38 : Nat), (43 : Nat), (54 : Nat), (0 : Nat)), ((54 : Nat), (56 : Nat), (54 : Nat), (0 : Nat))]) ∈ lw_all := lw_g (lw_at lw_m6 187 rfl) rfl
theorem q1517 : (Jvm.Cond.methodLink "EarthMesh" (386 : Nat) ({ cls := "EarthMesh", name := "worstOf", desc := "(I)LEarthMesh$Part;" } : Jvm.MethodName)) ∈ lw_all := lw_g (lw_at lw_m6 188 rfl) rfl
theorem q1518 : (Jvm.Cond.privateMethod ({ cls := "EarthMesh", name := "worstOf", desc := "(I)LEarthMesh$Part;" } : Jvm.MethodName)) ∈ lw_tbl := lw_at lw_m6 189 rfl
theorem q1519 : (Jvm.Cond.instanceMethod ({ cls := "EarthMesh", name := "worstOf", desc := "(I)LEarthMesh$Part;" } : Jvm.MethodName)) ∈ lw_all := lw_g (lw_at lw_m6 190 rfl) rfl
theorem q1520 : (Jvm.Cond.code ({ cls := "EarthMesh", name := "worstOf", desc := "(I)LEarthMesh$Part;" } : Jvm.MethodName) prog_1_method_53_code (3 : Nat) (Option.some (Jvm.ClassFile.FieldType.object "EarthMesh$Part"))) ∈ lw_all := lw_g (lw_at lw_m6 191 rfl) rfl
theorem q1525 : (Jvm.Cond.instanceMethod ({ cls := "EarthMesh", name := "free", desc := "(I)I" } : Jvm.MethodName)) ∈ lw_all := lw_g (lw_at lw_m6 196 rfl) rfl
theorem q1526 : (Jvm.Cond.selects "EarthMesh" ({ cls := "EarthMesh", name := "free", desc := "(I)I" } : Jvm.MethodName) ({ cls := "EarthMesh", name := "free", desc := "(I)I" } : Jvm.MethodName)) ∈ lw_all := lw_g (lw_at lw_m6 197 rfl) rfl
theorem q1527 : (Jvm.Cond.code ({ cls := "EarthMesh", name := "free", desc := "(I)I" } : Jvm.MethodName) prog_1_method_52_code (5 : Nat) (Option.some Jvm.ClassFile.FieldType.int)) ∈ lw_all := lw_g (lw_at lw_m6 198 rfl) rfl
theorem q1528 : (Jvm.Cond.methodLink "EarthMesh" (379 : Nat) ({ cls := "EarthMesh", name := "isRim", desc := "(I)Z" } : Jvm.MethodName)) ∈ lw_all := lw_g (lw_at lw_m6 199 rfl) rfl
theorem q1529 : (Jvm.Cond.privateMethod ({ cls := "EarthMesh", name := "isRim", desc := "(I)Z" } : Jvm.MethodName)) ∈ lw_tbl := lw_at lw_m6 200 rfl
theorem q1530 : (Jvm.Cond.instanceMethod ({ cls := "EarthMesh", name := "isRim", desc := "(I)Z" } : Jvm.MethodName)) ∈ lw_all := lw_g (lw_at lw_m6 201 rfl) rfl
theorem q1531 : (Jvm.Cond.code ({ cls := "EarthMesh", name := "isRim", desc := "(I)Z" } : Jvm.MethodName) prog_1_method_50_code (4 : Nat) (Option.some Jvm.ClassFile.FieldType.boolean)) ∈ lw_all := lw_g (lw_at lw_m6 202 rfl) rfl
theorem q1532 : (Jvm.Cond.methodLink "EarthMesh" (382 : Nat) ({ cls := "EarthMesh", name := "doesCome", desc := "(IJ)Z" } : Jvm.MethodName)) ∈ lw_all := lw_g (lw_at lw_m6 203 rfl) rfl
theorem q1533 : (Jvm.Cond.privateMethod ({ cls := "EarthMesh", name := "doesCome", desc := "(IJ)Z" } : Jvm.MethodName)) ∈ lw_tbl := lw_at lw_m6 204 rfl
theorem q1534 : (Jvm.Cond.instanceMethod ({ cls := "EarthMesh", name := "doesCome", desc := "(IJ)Z" } : Jvm.MethodName)) ∈ lw_all := lw_g (lw_at lw_m6 205 rfl) rfl
theorem q1535 : (Jvm.Cond.code ({ cls := "EarthMesh", name := "doesCome", desc := "(IJ)Z" } : Jvm.MethodName) prog_1_method_51_code (7 : Nat) (Option.some Jvm.ClassFile.FieldType.boolean)) ∈ lw_all := lw_g (lw_at lw_m6 206 rfl) rfl
theorem q1540 : (Jvm.Cond.instanceMethod ({ cls := "EarthMesh", name := "between", desc := "(IIZ)J" } : Jvm.MethodName)) ∈ lw_all := lw_g (lw_at lw_m6 211 rfl) rfl
theorem q1541 : (Jvm.Cond.selects "EarthMesh" ({ cls := "EarthMesh", name := "between", desc := "(IIZ)J" } : Jvm.MethodName) ({ cls := "EarthMesh", name := "between", desc := "(IIZ)J" } : Jvm.MethodName)) ∈ lw_all := lw_g (lw_at lw_m6 212 rfl) rfl
theorem q1542 : (Jvm.Cond.code ({ cls := "EarthMesh", name := "between", desc := "(IIZ)J" } : Jvm.MethodName) prog_1_method_67_code (7 : Nat) (Option.some Jvm.ClassFile.FieldType.long)) ∈ lw_all := lw_g (lw_at lw_m6 213 rfl) rfl
theorem q1543 : (Jvm.Cond.constantLong "EarthMesh" (413 : Nat) (2 : Int64)) ∈ lw_all := lw_g (lw_at lw_m6 214 rfl) rfl
theorem q1548 : (Jvm.Cond.instanceMethod ({ cls := "EarthMesh", name := "seen", desc := "(IIIZ)J" } : Jvm.MethodName)) ∈ lw_all := lw_g (lw_at lw_m6 219 rfl) rfl
theorem q1549 : (Jvm.Cond.selects "EarthMesh" ({ cls := "EarthMesh", name := "seen", desc := "(IIIZ)J" } : Jvm.MethodName) ({ cls := "EarthMesh", name := "seen", desc := "(IIIZ)J" } : Jvm.MethodName)) ∈ lw_all := lw_g (lw_at lw_m6 220 rfl) rfl
theorem q1550 : (Jvm.Cond.code ({ cls := "EarthMesh", name := "seen", desc := "(IIIZ)J" } : Jvm.MethodName) prog_1_method_69_code (7 : Nat) (Option.some Jvm.ClassFile.FieldType.long)) ∈ lw_all := lw_g (lw_at lw_m6 221 rfl) rfl
theorem q1551 : (Jvm.Cond.methodLink "EarthMesh" (419 : Nat) ({ cls := "EarthMesh", name := "leaked", desc := "(II)J" } : Jvm.MethodName)) ∈ lw_all := lw_g (lw_at lw_m6 222 rfl) rfl
theorem q1552 : (Jvm.Cond.privateMethod ({ cls := "EarthMesh", name := "leaked", desc := "(II)J" } : Jvm.MethodName)) ∈ lw_tbl := lw_at lw_m6 223 rfl
theorem q1553 : (Jvm.Cond.instanceMethod ({ cls := "EarthMesh", name := "leaked", desc := "(II)J" } : Jvm.MethodName)) ∈ lw_all := lw_g (lw_at lw_m6 224 rfl) rfl
theorem q1554 : (Jvm.Cond.code ({ cls := "EarthMesh", name := "leaked", desc := "(II)J" } : Jvm.MethodName) prog_1_method_68_code (6 : Nat) (Option.some Jvm.ClassFile.FieldType.long)) ∈ lw_all := lw_g (lw_at lw_m6 225 rfl) rfl
theorem q1555 : (Jvm.Cond.methodLink "EarthMesh" (415 : Nat) ({ cls := "EarthMesh$Equations", name := "bordered", desc := "(III)J" } : Jvm.MethodName)) ∈ lw_all := lw_g (lw_at lw_m6 226 rfl) rfl
theorem q1567 : (Jvm.Cond.instanceMethod ({ cls := "EarthMesh", name := "cheapest", desc := "(I)I" } : Jvm.MethodName)) ∈ lw_all := lw_g (lw_at lw_m6 238 rfl) rfl
theorem q1568 : (Jvm.Cond.selects "EarthMesh" ({ cls := "EarthMesh", name := "cheapest", desc := "(I)I" } : Jvm.MethodName) ({ cls := "EarthMesh", name := "cheapest", desc := "(I)I" } : Jvm.MethodName)) ∈ lw_all := lw_g (lw_at lw_m6 239 rfl) rfl
theorem q1569 : (Jvm.Cond.code ({ cls := "EarthMesh", name := "cheapest", desc := "(I)I" } : Jvm.MethodName) prog_1_method_77_code (3 : Nat) (Option.some Jvm.ClassFile.FieldType.int)) ∈ lw_all := lw_g (lw_at lw_m7 0 rfl) rfl
theorem q1570 : (Jvm.Cond.methodLink "EarthMesh" (440 : Nat) ({ cls := "EarthMesh", name := "laysCheap", desc := "()V" } : Jvm.MethodName)) ∈ lw_all := lw_g (lw_at lw_m7 1 rfl) rfl
theorem q1571 : (Jvm.Cond.privateMethod ({ cls := "EarthMesh", name := "laysCheap", desc := "()V" } : Jvm.MethodName)) ∈ lw_tbl := lw_at lw_m7 2 rfl
theorem q1572 : (Jvm.Cond.instanceMethod ({ cls := "EarthMesh", name := "laysCheap", desc := "()V" } : Jvm.MethodName)) ∈ lw_all := lw_g (lw_at lw_m7 3 rfl) rfl
theorem q1573 : (Jvm.Cond.code ({ cls := "EarthMesh", name := "laysCheap", desc := "()V" } : Jvm.MethodName) prog_1_method_72_code (3 : Nat) (Option.none : Option Jvm.ClassFile.FieldType)) ∈ lw_all := lw_g (lw_at lw_m7 4 rfl) rfl
theorem q1574 : (Jvm.Cond.methodLink "EarthMesh" (425 : Nat) ({ cls := "EarthMesh", name := "isCheap", desc := "(IIII)V" } : Jvm.MethodName)) ∈ lw_all := lw_g (lw_at lw_m7 5 rfl) rfl
theorem q1575 : (Jvm.Cond.privateMethod ({ cls := "EarthMesh", name := "isCheap", desc := "(IIII)V" } : Jvm.MethodName)) ∈ lw_tbl := lw_at lw_m7 6 rfl
theorem q1576 : (Jvm.Cond.instanceMethod ({ cls := "EarthMesh", name := "isCheap", desc := "(IIII)V" } : Jvm.MethodName)) ∈ lw_all := lw_g (lw_at lw_m7 7 rfl) rfl
theorem q1577 : (Jvm.Cond.code ({ cls := "EarthMesh", name := "isCheap", desc := "(IIII)V" } : Jvm.MethodName) prog_1_method_71_code (5 : Nat) (Option.none : Option Jvm.ClassFile.FieldType)) ∈ lw_all := lw_g (lw_at lw_m7 8 rfl) rfl
theorem q1578 : (Jvm.Cond.methodLink "EarthMesh" (432 : Nat) ({ cls := "EarthMesh$Mesh", name := "unit", desc := "(I)I" } : Jvm.MethodName)) ∈ lw_all := lw_g (lw_at lw_m7 9 rfl) rfl
theorem q1582 : (Jvm.Cond.methodLink "EarthMesh" (437 : Nat) ({ cls := "EarthMesh", name := "tries", desc := "(II)V" } : Jvm.MethodName)) ∈ lw_all := lw_g (lw_at lw_m7 13 rfl) rfl
theorem q1583 : (Jvm.Cond.privateMethod ({ cls := "EarthMesh", name := "tries", desc := "(II)V" } : Jvm.MethodName)) ∈ lw_tbl := lw_at lw_m7 14 rfl
theorem q1584 : (Jvm.Cond.instanceMethod ({ cls := "EarthMesh", name := "tries", desc := "(II)V" } : Jvm.MethodName)) ∈ lw_all := lw_g (lw_at lw_m7 15 rfl) rfl
theorem q1585 : (Jvm.Cond.code ({ cls := "EarthMesh", name := "tries", desc := "(II)V" } : Jvm.MethodName) prog_1_method_74_code (3 : Nat) (Option.none : Option Jvm.ClassFile.FieldType)) ∈ lw_all := lw_g (lw_at lw_m7 16 rfl) rfl
theorem q1590 : (Jvm.Cond.instanceMethod ({ cls := "EarthMesh", name := "stored", desc := "(II)I" } : Jvm.MethodName)) ∈ lw_all := lw_g (lw_at lw_m7 21 rfl) rfl
theorem q1591 : (Jvm.Cond.selects "EarthMesh" ({ cls := "EarthMesh", name := "stored", desc := "(II)I" } : Jvm.MethodName) ({ cls := "EarthMesh", name := "stored", desc := "(II)I" } : Jvm.MethodName)) ∈ lw_all := lw_g (lw_at lw_m7 22 rfl) rfl
theorem q1592 : (Jvm.Cond.code ({ cls := "EarthMesh", name := "stored", desc := "(II)I" } : Jvm.MethodName) prog_1_method_82_code (3 : Nat) (Option.some Jvm.ClassFile.FieldType.int)) ∈ lw_all := lw_g (lw_at lw_m7 23 rfl) rfl
theorem q2146 : (Jvm.Cond.castable "EarthMesh" "java/lang/Object") ∈ lw_tbl := lw_at lw_m9 97 rfl
theorem in_X1 : ∀ w ∈ wsX10, w ∈ lw_all := lw_in wsX10 [379, 381, 383, 385, 387, 389, 391, 393, 395, 397, 399, 401, 403, 405, 407, 409, 411, 413] (by decide +kernel) (by decide +kernel)
def RX2 : String := "EarthMesh$Mesh"
def TX2 : u_T := fun k => match k with
  | 0 => ("EarthMesh$Mesh", "columns", "I", false)
  | 1 => ("EarthMesh$Mesh", "lines", "I", false)
  | 2 => ("EarthMesh$Mesh", "node", "I", false)
  | 3 => ("EarthMesh$Mesh", "amperes", "I", false)
  | 4 => ("EarthMesh$Mesh", "cover", "I", false)
  | 5 => ("EarthMesh$Mesh", "step", "I", false)
  | 6 => ("EarthMesh$Mesh", "touch", "I", false)
  | 7 => ("EarthMesh$Mesh", "barPrice", "I", false)
  | 8 => ("EarthMesh$Mesh", "rodPrice", "I", false)
  | 9 => ("EarthMesh$Mesh", "bears", "I", false)
  | _ => ("EarthMesh$Mesh", "much", "[[I", false)
def tyX2 : Nat → FieldType := fun k => match k with
  | 0 => .int
  | 1 => .int
  | 2 => .int
  | 3 => .int
  | 4 => .int
  | 5 => .int
  | 6 => .int
  | 7 => .int
  | 8 => .int
  | 9 => .int
  | _ => .array (.array .int)
abbrev wsX20 : List Cond := u_ws RX2 TX2 11
theorem nmX2 : ∀ a, a < 11 → ∀ b, b < 11 → a ≠ b → (TX2 a).2.1 ≠ (TX2 b).2.1 := by decide +kernel
theorem tyX2_ok : ∀ k, k < 11 → parseFieldDescriptor (TX2 k).2.2.1 = some (tyX2 k) := by decide +kernel
abbrev cX2_init : ByteArray := prog_9_method_1_code
def yX2_init : MethodName := ⟨RX2, "<init>", "()V"⟩
abbrev cX2_nodes : ByteArray := prog_9_method_2_code
def yX2_nodes : MethodName := ⟨RX2, "nodes", "()I"⟩
abbrev cX2_hasPlace : ByteArray := prog_9_method_3_code
def yX2_hasPlace : MethodName := ⟨RX2, "hasPlace", "(II)Z"⟩
abbrev cX2_joined : ByteArray := prog_9_method_6_code
def yX2_joined : MethodName := ⟨RX2, "joined", "(I)I"⟩
abbrev cX2_between : ByteArray := prog_9_method_5_code
def yX2_between : MethodName := ⟨RX2, "between", "(II)I"⟩
abbrev cX2_end : ByteArray := prog_9_method_4_code
def yX2_end : MethodName := ⟨RX2, "end", "(II)I"⟩
abbrev cX2_floats : ByteArray := prog_9_method_7_code
def yX2_floats : MethodName := ⟨RX2, "floats", "(I)Z"⟩
abbrev cX2_unit : ByteArray := prog_9_method_8_code
def yX2_unit : MethodName := ⟨RX2, "unit", "(I)I"⟩
theorem q131 : (Jvm.Cond.initialized "EarthMesh$Mesh") ∈ lw_all := lw_g (lw_at lw_m1 2 rfl) rfl
theorem q175 : (Jvm.Cond.instantiable "EarthMesh$Mesh" (11 : Nat)) ∈ lw_all := lw_g (lw_at lw_m1 46 rfl) rfl
theorem q177 : (Jvm.Cond.instanceMethod ({ cls := "EarthMesh$Mesh", name := "<init>", desc := "()V" } : Jvm.MethodName)) ∈ lw_all := lw_g (lw_at lw_m1 48 rfl) rfl
theorem q178 : (Jvm.Cond.code ({ cls := "EarthMesh$Mesh", name := "<init>", desc := "()V" } : Jvm.MethodName) prog_9_method_1_code (1 : Nat) (Option.none : Option Jvm.ClassFile.FieldType)) ∈ lw_all := lw_g (lw_at lw_m1 49 rfl) rfl
theorem q179 : (Jvm.Cond.methodLink "EarthMesh$Mesh" (3 : Nat) ({ cls := "java/lang/Object", name := "<init>", desc := "()V" } : Jvm.MethodName)) ∈ lw_all := lw_g (lw_at lw_m1 50 rfl) rfl
theorem q180 : (Jvm.Cond.classLink "EarthMesh$Mesh" (39 : Nat) "[[I") ∈ lw_all := lw_g (lw_at lw_m1 51 rfl) rfl
theorem q182 : (Jvm.Cond.fieldLink "EarthMesh$Mesh" (9 : Nat) "EarthMesh$Mesh" "columns" "I") ∈ lw_all := lw_g (lw_at lw_m1 53 rfl) rfl
theorem q185 : (Jvm.Cond.fieldLink "EarthMesh$Mesh" (15 : Nat) "EarthMesh$Mesh" "lines" "I") ∈ lw_all := lw_g (lw_at lw_m1 56 rfl) rfl
theorem q190 : (Jvm.Cond.fieldLink "EarthMesh$Mesh" (18 : Nat) "EarthMesh$Mesh" "amperes" "I") ∈ lw_all := lw_g (lw_at lw_m1 61 rfl) rfl
theorem q193 : (Jvm.Cond.fieldLink "EarthMesh$Mesh" (21 : Nat) "EarthMesh$Mesh" "cover" "I") ∈ lw_all := lw_g (lw_at lw_m1 64 rfl) rfl
theorem q196 : (Jvm.Cond.fieldLink "EarthMesh$Mesh" (24 : Nat) "EarthMesh$Mesh" "step" "I") ∈ lw_all := lw_g (lw_at lw_m1 67 rfl) rfl
theorem q199 : (Jvm.Cond.fieldLink "EarthMesh$Mesh" (27 : Nat) "EarthMesh$Mesh" "touch" "I") ∈ lw_all := lw_g (lw_at lw_m1 70 rfl) rfl
theorem q202 : (Jvm.Cond.fieldLink "EarthMesh$Mesh" (30 : Nat) "EarthMesh$Mesh" "barPrice" "I") ∈ lw_all := lw_g (lw_at lw_m1 73 rfl) rfl
theorem q205 : (Jvm.Cond.fieldLink "EarthMesh$Mesh" (33 : Nat) "EarthMesh$Mesh" "rodPrice" "I") ∈ lw_all := lw_g (lw_at lw_m1 76 rfl) rfl
theorem q208 : (Jvm.Cond.fieldLink "EarthMesh$Mesh" (36 : Nat) "EarthMesh$Mesh" "bears" "I") ∈ lw_all := lw_g (lw_at lw_m1 79 rfl) rfl
theorem q211 : (Jvm.Cond.fieldLink "EarthMesh$Mesh" (41 : Nat) "EarthMesh$Mesh" "much" "[[I") ∈ lw_all := lw_g (lw_at lw_m1 82 rfl) rfl
theorem q215 : (Jvm.Cond.lays "EarthMesh$Mesh" "EarthMesh$Mesh" "columns" "I") ∈ lw_all := lw_g (lw_at lw_m1 86 rfl) rfl
theorem q216 : (Jvm.Cond.soleField "EarthMesh$Mesh" "columns") ∈ lw_all := lw_g (lw_at lw_m1 87 rfl) rfl
theorem q217 : (Jvm.Cond.lays "EarthMesh$Mesh" "EarthMesh$Mesh" "lines" "I") ∈ lw_all := lw_g (lw_at lw_m1 88 rfl) rfl
theorem q218 : (Jvm.Cond.soleField "EarthMesh$Mesh" "lines") ∈ lw_all := lw_g (lw_at lw_m1 89 rfl) rfl
theorem q219 : (Jvm.Cond.lays "EarthMesh$Mesh" "EarthMesh$Mesh" "node" "I") ∈ lw_all := lw_g (lw_at lw_m1 90 rfl) rfl
theorem q220 : (Jvm.Cond.soleField "EarthMesh$Mesh" "node") ∈ lw_all := lw_g (lw_at lw_m1 91 rfl) rfl
theorem q221 : (Jvm.Cond.lays "EarthMesh$Mesh" "EarthMesh$Mesh" "amperes" "I") ∈ lw_all := lw_g (lw_at lw_m1 92 rfl) rfl
theorem q222 : (Jvm.Cond.soleField "EarthMesh$Mesh" "amperes") ∈ lw_all := lw_g (lw_at lw_m1 93 rfl) rfl
theorem q223 : (Jvm.Cond.lays "EarthMesh$Mesh" "EarthMesh$Mesh" "cover" "I") ∈ lw_all := lw_g (lw_at lw_m1 94 rfl) rfl
theorem q224 : (Jvm.Cond.soleField "EarthMesh$Mesh" "cover") ∈ lw_all := lw_g (lw_at lw_m1 95 rfl) rfl
theorem q225 : (Jvm.Cond.lays "EarthMesh$Mesh" "EarthMesh$Mesh" "step" "I") ∈ lw_all := lw_g (lw_at lw_m1 96 rfl) rfl
theorem q226 : (Jvm.Cond.soleField "EarthMesh$Mesh" "step") ∈ lw_all := lw_g (lw_at lw_m1 97 rfl) rfl
theorem q227 : (Jvm.Cond.lays "EarthMesh$Mesh" "EarthMesh$Mesh" "touch" "I") ∈ lw_all := lw_g (lw_at lw_m1 98 rfl) rfl
theorem q228 : (Jvm.Cond.soleField "EarthMesh$Mesh" "touch") ∈ lw_all := lw_g (lw_at lw_m1 99 rfl) rfl
theorem q229 : (Jvm.Cond.lays "EarthMesh$Mesh" "EarthMesh$Mesh" "barPrice" "I") ∈ lw_all := lw_g (lw_at lw_m1 100 rfl) rfl
theorem q230 : (Jvm.Cond.soleField "EarthMesh$Mesh" "barPrice") ∈ lw_all := lw_g (lw_at lw_m1 101 rfl) rfl
theorem q231 : (Jvm.Cond.lays "EarthMesh$Mesh" "EarthMesh$Mesh" "rodPrice" "I") ∈ lw_all := lw_g (lw_at lw_m1 102 rfl) rfl
theorem q232 : (Jvm.Cond.soleField "EarthMesh$Mesh" "rodPrice") ∈ lw_all := lw_g (lw_at lw_m1 103 rfl) rfl
theorem q233 : (Jvm.Cond.lays "EarthMesh$Mesh" "EarthMesh$Mesh" "bears" "I") ∈ lw_all := lw_g (lw_at lw_m1 104 rfl) rfl
theorem q234 : (Jvm.Cond.soleField "EarthMesh$Mesh" "bears") ∈ lw_all := lw_g (lw_at lw_m1 105 rfl) rfl
theorem q235 : (Jvm.Cond.lays "EarthMesh$Mesh" "EarthMesh$Mesh" "much" "[[I") ∈ lw_all := lw_g (lw_at lw_m1 106 rfl) rfl
theorem q236 : (Jvm.Cond.soleField "EarthMesh$Mesh" "much") ∈ lw_all := lw_g (lw_at lw_m1 107 rfl) rfl
theorem q237 : (Jvm.Cond.superclass "EarthMesh$Mesh" "java/lang/Object") ∈ lw_all := lw_g (lw_at lw_m1 108 rfl) rfl
theorem q441 : (Jvm.Cond.instanceMethod ({ cls := "EarthMesh$Mesh", name := "nodes", desc := "()I" } : Jvm.MethodName)) ∈ lw_all := lw_g (lw_at lw_m2 72 rfl) rfl
theorem q442 : (Jvm.Cond.selects "EarthMesh$Mesh" ({ cls := "EarthMesh$Mesh", name := "nodes", desc := "()I" } : Jvm.MethodName) ({ cls := "EarthMesh$Mesh", name := "nodes", desc := "()I" } : Jvm.MethodName)) ∈ lw_all := lw_g (lw_at lw_m2 73 rfl) rfl
theorem q443 : (Jvm.Cond.code ({ cls := "EarthMesh$Mesh", name := "nodes", desc := "()I" } : Jvm.MethodName) prog_9_method_2_code (1 : Nat) (Option.some Jvm.ClassFile.FieldType.int)) ∈ lw_all := lw_g (lw_at lw_m2 74 rfl) rfl
theorem q448 : (Jvm.Cond.instanceMethod ({ cls := "EarthMesh$Mesh", name := "hasPlace", desc := "(II)Z" } : Jvm.MethodName)) ∈ lw_all := lw_g (lw_at lw_m2 79 rfl) rfl
theorem q449 : (Jvm.Cond.selects "EarthMesh$Mesh" ({ cls := "EarthMesh$Mesh", name := "hasPlace", desc := "(II)Z" } : Jvm.MethodName) ({ cls := "EarthMesh$Mesh", name := "hasPlace", desc := "(II)Z" } : Jvm.MethodName)) ∈ lw_all := lw_g (lw_at lw_m2 80 rfl) rfl
theorem q450 : (Jvm.Cond.code ({ cls := "EarthMesh$Mesh", name := "hasPlace", desc := "(II)Z" } : Jvm.MethodName) prog_9_method_3_code (3 : Nat) (Option.some Jvm.ClassFile.FieldType.boolean)) ∈ lw_all := lw_g (lw_at lw_m2 81 rfl) rfl
theorem q1101 : (Jvm.Cond.instanceMethod ({ cls := "EarthMesh$Mesh", name := "joined", desc := "(I)I" } : Jvm.MethodName)) ∈ lw_all := lw_g (lw_at lw_m5 12 rfl) rfl
theorem q1102 : (Jvm.Cond.selects "EarthMesh$Mesh" ({ cls := "EarthMesh$Mesh", name := "joined", desc := "(I)I" } : Jvm.MethodName) ({ cls := "EarthMesh$Mesh", name := "joined", desc := "(I)I" } : Jvm.MethodName)) ∈ lw_all := lw_g (lw_at lw_m5 13 rfl) rfl
theorem q1103 : (Jvm.Cond.code ({ cls := "EarthMesh$Mesh", name := "joined", desc := "(I)I" } : Jvm.MethodName) prog_9_method_6_code (6 : Nat) (Option.some Jvm.ClassFile.FieldType.int)) ∈ lw_all := lw_g (lw_at lw_m5 14 rfl) rfl
theorem q1104 : (Jvm.Cond.methodLink "EarthMesh$Mesh" (60 : Nat) ({ cls := "EarthMesh$Mesh", name := "nodes", desc := "()I" } : Jvm.MethodName)) ∈ lw_all := lw_g (lw_at lw_m5 15 rfl) rfl
theorem q1105 : (Jvm.Cond.methodLink "EarthMesh$Mesh" (64 : Nat) ({ cls := "EarthMesh$Mesh", name := "between", desc := "(II)I" } : Jvm.MethodName)) ∈ lw_all := lw_g (lw_at lw_m5 16 rfl) rfl
theorem q1106 : (Jvm.Cond.instanceMethod ({ cls := "EarthMesh$Mesh", name := "between", desc := "(II)I" } : Jvm.MethodName)) ∈ lw_all := lw_g (lw_at lw_m5 17 rfl) rfl
theorem q1107 : (Jvm.Cond.selects "EarthMesh$Mesh" ({ cls := "EarthMesh$Mesh", name := "between", desc := "(II)I" } : Jvm.MethodName) ({ cls := "EarthMesh$Mesh", name := "between", desc := "(II)I" } : Jvm.MethodName)) ∈ lw_all := lw_g (lw_at lw_m5 18 rfl) rfl
theorem q1108 : (Jvm.Cond.code ({ cls := "EarthMesh$Mesh", name := "between", desc := "(II)I" } : Jvm.MethodName) prog_9_method_5_code (5 : Nat) (Option.some Jvm.ClassFile.FieldType.int)) ∈ lw_all := lw_g (lw_at lw_m5 19 rfl) rfl
theorem q1109 : (Jvm.Cond.methodLink "EarthMesh$Mesh" (44 : Nat) ({ cls := "java/lang/Math", name := "min", desc := "(II)I" } : Jvm.MethodName)) ∈ lw_all := lw_g (lw_at lw_m5 20 rfl) rfl
theorem q1110 : (Jvm.Cond.methodLink "EarthMesh$Mesh" (50 : Nat) ({ cls := "java/lang/Math", name := "max", desc := "(II)I" } : Jvm.MethodName)) ∈ lw_all := lw_g (lw_at lw_m5 21 rfl) rfl
theorem q1111 : (Jvm.Cond.methodLink "EarthMesh$Mesh" (53 : Nat) ({ cls := "EarthMesh$Mesh", name := "hasPlace", desc := "(II)Z" } : Jvm.MethodName)) ∈ lw_all := lw_g (lw_at lw_m5 22 rfl) rfl
theorem q1112 : (Jvm.Cond.methodLink "EarthMesh$Mesh" (57 : Nat) ({ cls := "EarthMesh$Mesh", name := "end", desc := "(II)I" } : Jvm.MethodName)) ∈ lw_all := lw_g (lw_at lw_m5 23 rfl) rfl
theorem q1113 : (Jvm.Cond.instanceMethod ({ cls := "EarthMesh$Mesh", name := "end", desc := "(II)I" } : Jvm.MethodName)) ∈ lw_all := lw_g (lw_at lw_m5 24 rfl) rfl
theorem q1114 : (Jvm.Cond.selects "EarthMesh$Mesh" ({ cls := "EarthMesh$Mesh", name := "end", desc := "(II)I" } : Jvm.MethodName) ({ cls := "EarthMesh$Mesh", name := "end", desc := "(II)I" } : Jvm.MethodName)) ∈ lw_all := lw_g (lw_at lw_m5 25 rfl) rfl
theorem q1115 : (Jvm.Cond.code ({ cls := "EarthMesh$Mesh", name := "end", desc := "(II)I" } : Jvm.MethodName) prog_9_method_4_code (3 : Nat) (Option.some Jvm.ClassFile.FieldType.int)) ∈ lw_all := lw_g (lw_at lw_m5 26 rfl) rfl
theorem q1117 : (Jvm.Cond.instanceMethod ({ cls := "EarthMesh$Mesh", name := "floats", desc := "(I)Z" } : Jvm.MethodName)) ∈ lw_all := lw_g (lw_at lw_m5 28 rfl) rfl
theorem q1118 : (Jvm.Cond.selects "EarthMesh$Mesh" ({ cls := "EarthMesh$Mesh", name := "floats", desc := "(I)Z" } : Jvm.MethodName) ({ cls := "EarthMesh$Mesh", name := "floats", desc := "(I)Z" } : Jvm.MethodName)) ∈ lw_all := lw_g (lw_at lw_m5 29 rfl) rfl
theorem q1119 : (Jvm.Cond.code ({ cls := "EarthMesh$Mesh", name := "floats", desc := "(I)Z" } : Jvm.MethodName) prog_9_method_7_code (3 : Nat) (Option.some Jvm.ClassFile.FieldType.boolean)) ∈ lw_all := lw_g (lw_at lw_m5 30 rfl) rfl
theorem q1579 : (Jvm.Cond.instanceMethod ({ cls := "EarthMesh$Mesh", name := "unit", desc := "(I)I" } : Jvm.MethodName)) ∈ lw_all := lw_g (lw_at lw_m7 10 rfl) rfl
theorem q1580 : (Jvm.Cond.selects "EarthMesh$Mesh" ({ cls := "EarthMesh$Mesh", name := "unit", desc := "(I)I" } : Jvm.MethodName) ({ cls := "EarthMesh$Mesh", name := "unit", desc := "(I)I" } : Jvm.MethodName)) ∈ lw_all := lw_g (lw_at lw_m7 11 rfl) rfl
theorem q1581 : (Jvm.Cond.code ({ cls := "EarthMesh$Mesh", name := "unit", desc := "(I)I" } : Jvm.MethodName) prog_9_method_8_code (2 : Nat) (Option.some Jvm.ClassFile.FieldType.int)) ∈ lw_all := lw_g (lw_at lw_m7 12 rfl) rfl
theorem q2147 : (Jvm.Cond.castable "EarthMesh$Mesh" "java/lang/Object") ∈ lw_tbl := lw_at lw_m9 98 rfl
theorem in_X2 : ∀ w ∈ wsX20, w ∈ lw_all := lw_in wsX20 [215, 217, 219, 221, 223, 225, 227, 229, 231, 233, 235] (by decide +kernel) (by decide +kernel)
def RX3 : String := "EarthMesh$Equations"
def TX3 : u_T := fun k => match k with
  | 0 => ("EarthMesh$Equations", "all", "[[J", true)
  | 1 => ("EarthMesh$Equations", "some", "[[J", true)
  | 2 => ("EarthMesh$Equations", "determinant", "LEarthMesh$Determinant;", true)
  | 3 => ("EarthMesh$Equations", "who", "[I", true)
  | 4 => ("EarthMesh$Equations", "whereIs", "[I", true)
  | 5 => ("EarthMesh$Equations", "many", "I", false)
  | 6 => ("EarthMesh$Equations", "whole", "J", false)
  | 7 => ("EarthMesh$Equations", "line", "[J", true)
  | _ => ("EarthMesh$Equations", "this$0", "LEarthMesh;", true)
def tyX3 : Nat → FieldType := fun k => match k with
  | 0 => .array (.array .long)
  | 1 => .array (.array .long)
  | 2 => .object "EarthMesh$Determinant"
  | 3 => .array .int
  | 4 => .array .int
  | 5 => .int
  | 6 => .long
  | 7 => .array .long
  | _ => .object "EarthMesh"
abbrev wsX30 : List Cond := u_ws RX3 TX3 9
theorem nmX3 : ∀ a, a < 9 → ∀ b, b < 9 → a ≠ b → (TX3 a).2.1 ≠ (TX3 b).2.1 := by decide +kernel
theorem tyX3_ok : ∀ k, k < 9 → parseFieldDescriptor (TX3 k).2.2.1 = some (tyX3 k) := by decide +kernel
abbrev cX3_init : ByteArray := prog_5_method_1_code
def yX3_init : MethodName := ⟨RX3, "<init>", "(LEarthMesh;)V"⟩
abbrev cX3_lays : ByteArray := prog_5_method_2_code
def yX3_lays : MethodName := ⟨RX3, "lays", "(I)V"⟩
abbrev cX3_linesOf : ByteArray := prog_5_method_4_code
def yX3_linesOf : MethodName := ⟨RX3, "linesOf", "(I[J)V"⟩
abbrev cX3_but : ByteArray := prog_5_method_3_code
def yX3_but : MethodName := ⟨RX3, "but", "(II)J"⟩
abbrev cX3_of : ByteArray := prog_5_method_5_code
def yX3_of : MethodName := ⟨RX3, "of", "(II)J"⟩
abbrev cX3_bordered : ByteArray := prog_5_method_6_code
def yX3_bordered : MethodName := ⟨RX3, "bordered", "(III)J"⟩
abbrev cX3_laysRow : ByteArray := prog_5_method_7_code
def yX3_laysRow : MethodName := ⟨RX3, "laysRow", "(IIIII)V"⟩
theorem q132 : (Jvm.Cond.initialized "EarthMesh$Equations") ∈ lw_all := lw_g (lw_at lw_m1 3 rfl) rfl
theorem q212 : (Jvm.Cond.fieldLinkNest "EarthMesh$Equations" (49 : Nat) "EarthMesh$Mesh" "much" "[[I" "EarthMesh") ∈ lw_tbl := lw_at lw_m1 83 rfl
theorem q240 : (Jvm.Cond.instantiable "EarthMesh$Equations" (9 : Nat)) ∈ lw_all := lw_g (lw_at lw_m1 111 rfl) rfl
theorem q242 : (Jvm.Cond.instanceMethod ({ cls := "EarthMesh$Equations", name := "<init>", desc := "(LEarthMesh;)V" } : Jvm.MethodName)) ∈ lw_all := lw_g (lw_at lw_m1 113 rfl) rfl
theorem q243 : (Jvm.Cond.code ({ cls := "EarthMesh$Equations", name := "<init>", desc := "(LEarthMesh;)V" } : Jvm.MethodName) prog_5_method_1_code (2 : Nat) (Option.none : Option Jvm.ClassFile.FieldType)) ∈ lw_all := lw_g (lw_at lw_m1 114 rfl) rfl
theorem q244 : (Jvm.Cond.methodLink "EarthMesh$Equations" (9 : Nat) ({ cls := "java/lang/Object", name := "<init>", desc := "()V" } : Jvm.MethodName)) ∈ lw_all := lw_g (lw_at lw_m1 115 rfl) rfl
theorem q245 : (Jvm.Cond.classLink "EarthMesh$Equations" (15 : Nat) "[[J") ∈ lw_all := lw_g (lw_at lw_m1 116 rfl) rfl
theorem q247 : (Jvm.Cond.classLink "EarthMesh$Equations" (23 : Nat) "EarthMesh$Determinant") ∈ lw_all := lw_g (lw_at lw_m1 118 rfl) rfl
theorem q249 : (Jvm.Cond.methodLinkNest "EarthMesh$Equations" (25 : Nat) ({ cls := "EarthMesh$Determinant", name := "<init>", desc := "()V" } : Jvm.MethodName) "EarthMesh") ∈ lw_tbl := lw_at lw_m1 120 rfl
theorem q274 : (Jvm.Cond.fieldLink "EarthMesh$Equations" (17 : Nat) "EarthMesh$Equations" "all" "[[J") ∈ lw_all := lw_g (lw_at lw_m1 145 rfl) rfl
theorem q275 : (Jvm.Cond.fieldLink "EarthMesh$Equations" (20 : Nat) "EarthMesh$Equations" "some" "[[J") ∈ lw_all := lw_g (lw_at lw_m1 146 rfl) rfl
theorem q276 : (Jvm.Cond.fieldLink "EarthMesh$Equations" (26 : Nat) "EarthMesh$Equations" "determinant" "LEarthMesh$Determinant;") ∈ lw_all := lw_g (lw_at lw_m1 147 rfl) rfl
theorem q277 : (Jvm.Cond.fieldLink "EarthMesh$Equations" (30 : Nat) "EarthMesh$Equations" "who" "[I") ∈ lw_all := lw_g (lw_at lw_m1 148 rfl) rfl
theorem q278 : (Jvm.Cond.fieldLink "EarthMesh$Equations" (34 : Nat) "EarthMesh$Equations" "whereIs" "[I") ∈ lw_all := lw_g (lw_at lw_m1 149 rfl) rfl
theorem q279 : (Jvm.Cond.fieldLink "EarthMesh$Equations" (41 : Nat) "EarthMesh$Equations" "many" "I") ∈ lw_all := lw_g (lw_at lw_m1 150 rfl) rfl
theorem q281 : (Jvm.Cond.fieldLink "EarthMesh$Equations" (67 : Nat) "EarthMesh$Equations" "whole" "J") ∈ lw_all := lw_g (lw_at lw_m1 152 rfl) rfl
theorem q282 : (Jvm.Cond.fieldLink "EarthMesh$Equations" (37 : Nat) "EarthMesh$Equations" "line" "[J") ∈ lw_all := lw_g (lw_at lw_m1 153 rfl) rfl
theorem q283 : (Jvm.Cond.fieldLink "EarthMesh$Equations" (3 : Nat) "EarthMesh$Equations" "this$0" "LEarthMesh;") ∈ lw_all := lw_g (lw_at lw_m1 154 rfl) rfl
theorem q284 : (Jvm.Cond.laysFinal "EarthMesh$Equations" "EarthMesh$Equations" "all" "[[J") ∈ lw_all := lw_g (lw_at lw_m1 155 rfl) rfl
theorem q285 : (Jvm.Cond.soleField "EarthMesh$Equations" "all") ∈ lw_all := lw_g (lw_at lw_m1 156 rfl) rfl
theorem q286 : (Jvm.Cond.laysFinal "EarthMesh$Equations" "EarthMesh$Equations" "some" "[[J") ∈ lw_all := lw_g (lw_at lw_m1 157 rfl) rfl
theorem q287 : (Jvm.Cond.soleField "EarthMesh$Equations" "some") ∈ lw_all := lw_g (lw_at lw_m1 158 rfl) rfl
theorem q288 : (Jvm.Cond.laysFinal "EarthMesh$Equations" "EarthMesh$Equations" "determinant" "LEarthMesh$Determinant;") ∈ lw_all := lw_g (lw_at lw_m1 159 rfl) rfl
theorem q289 : (Jvm.Cond.soleField "EarthMesh$Equations" "determinant") ∈ lw_all := lw_g (lw_at lw_m1 160 rfl) rfl
theorem q290 : (Jvm.Cond.laysFinal "EarthMesh$Equations" "EarthMesh$Equations" "who" "[I") ∈ lw_all := lw_g (lw_at lw_m1 161 rfl) rfl
theorem q291 : (Jvm.Cond.soleField "EarthMesh$Equations" "who") ∈ lw_all := lw_g (lw_at lw_m1 162 rfl) rfl
theorem q292 : (Jvm.Cond.laysFinal "EarthMesh$Equations" "EarthMesh$Equations" "whereIs" "[I") ∈ lw_all := lw_g (lw_at lw_m1 163 rfl) rfl
theorem q293 : (Jvm.Cond.soleField "EarthMesh$Equations" "whereIs") ∈ lw_all := lw_g (lw_at lw_m1 164 rfl) rfl
theorem q294 : (Jvm.Cond.lays "EarthMesh$Equations" "EarthMesh$Equations" "many" "I") ∈ lw_all := lw_g (lw_at lw_m1 165 rfl) rfl
theorem q295 : (Jvm.Cond.soleField "EarthMesh$Equations" "many") ∈ lw_all := lw_g (lw_at lw_m1 166 rfl) rfl
theorem q296 : (Jvm.Cond.lays "EarthMesh$Equations" "EarthMesh$Equations" "whole" "J") ∈ lw_all := lw_g (lw_at lw_m1 167 rfl) rfl
theorem q297 : (Jvm.Cond.soleField "EarthMesh$Equations" "whole") ∈ lw_all := lw_g (lw_at lw_m1 168 rfl) rfl
theorem q298 : (Jvm.Cond.laysFinal "EarthMesh$Equations" "EarthMesh$Equations" "line" "[J") ∈ lw_all := lw_g (lw_at lw_m1 169 rfl) rfl
theorem q299 : (Jvm.Cond.soleField "EarthMesh$Equations" "line") ∈ lw_all := lw_g (lw_at lw_m1 170 rfl) rfl
theorem q300 : (Jvm.Cond.laysFinal "EarthMesh$Equations" "EarthMesh$Equations" "this$0" "LEarthMesh;") ∈ lw_all := lw_g (lw_at lw_m1 171 rfl) rfl
theorem q301 : (Jvm.Cond.soleField "EarthMesh$Equations" "this$0") ∈ lw_all := lw_g (lw_at lw_m1 172 rfl) rfl
theorem q302 : (Jvm.Cond.superclass "EarthMesh$Equations" "java/lang/Object") ∈ lw_all := lw_g (lw_at lw_m1 173 rfl) rfl
theorem q360 : (Jvm.Cond.fieldLinkNest "EarthMesh$Equations" (45 : Nat) "EarthMesh" "mesh" "LEarthMesh$Mesh;" "EarthMesh") ∈ lw_tbl := lw_at lw_m1 231 rfl
theorem q1145 : (Jvm.Cond.instanceMethod ({ cls := "EarthMesh$Equations", name := "lays", desc := "(I)V" } : Jvm.MethodName)) ∈ lw_all := lw_g (lw_at lw_m5 56 rfl) rfl
theorem q1146 : (Jvm.Cond.selects "EarthMesh$Equations" ({ cls := "EarthMesh$Equations", name := "lays", desc := "(I)V" } : Jvm.MethodName) ({ cls := "EarthMesh$Equations", name := "lays", desc := "(I)V" } : Jvm.MethodName)) ∈ lw_all := lw_g (lw_at lw_m5 57 rfl) rfl
theorem q1147 : (Jvm.Cond.code ({ cls := "EarthMesh$Equations", name := "lays", desc := "(I)V" } : Jvm.MethodName) prog_5_method_2_code (4 : Nat) (Option.none : Option Jvm.ClassFile.FieldType)) ∈ lw_all := lw_g (lw_at lw_m5 58 rfl) rfl
theorem q1148 : (Jvm.Cond.methodLink "EarthMesh$Equations" (55 : Nat) ({ cls := "EarthMesh$Mesh", name := "nodes", desc := "()I" } : Jvm.MethodName)) ∈ lw_all := lw_g (lw_at lw_m5 59 rfl) rfl
theorem q1149 : (Jvm.Cond.methodLink "EarthMesh$Equations" (59 : Nat) ({ cls := "EarthMesh$Mesh", name := "between", desc := "(II)I" } : Jvm.MethodName)) ∈ lw_all := lw_g (lw_at lw_m5 60 rfl) rfl
theorem q1150 : (Jvm.Cond.methodLink "EarthMesh$Equations" (63 : Nat) ({ cls := "EarthMesh$Determinant", name := "of", desc := "([[JI)J" } : Jvm.MethodName)) ∈ lw_all := lw_g (lw_at lw_m5 61 rfl) rfl
theorem q1186 : (Jvm.Cond.instanceMethod ({ cls := "EarthMesh$Equations", name := "linesOf", desc := "(I[J)V" } : Jvm.MethodName)) ∈ lw_all := lw_g (lw_at lw_m5 97 rfl) rfl
theorem q1187 : (Jvm.Cond.selects "EarthMesh$Equations" ({ cls := "EarthMesh$Equations", name := "linesOf", desc := "(I[J)V" } : Jvm.MethodName) ({ cls := "EarthMesh$Equations", name := "linesOf", desc := "(I[J)V" } : Jvm.MethodName)) ∈ lw_all := lw_g (lw_at lw_m5 98 rfl) rfl
theorem q1188 : (Jvm.Cond.code ({ cls := "EarthMesh$Equations", name := "linesOf", desc := "(I[J)V" } : Jvm.MethodName) prog_5_method_4_code (4 : Nat) (Option.none : Option Jvm.ClassFile.FieldType)) ∈ lw_all := lw_g (lw_at lw_m5 99 rfl) rfl
theorem q1189 : (Jvm.Cond.methodLink "EarthMesh$Equations" (71 : Nat) ({ cls := "EarthMesh$Determinant", name := "lines", desc := "([[JII[J)Z" } : Jvm.MethodName)) ∈ lw_all := lw_g (lw_at lw_m5 100 rfl) rfl
theorem q1197 : (Jvm.Cond.methodLink "EarthMesh$Equations" (75 : Nat) ({ cls := "EarthMesh$Equations", name := "but", desc := "(II)J" } : Jvm.MethodName)) ∈ lw_all := lw_g (lw_at lw_m5 108 rfl) rfl
theorem q1198 : (Jvm.Cond.instanceMethod ({ cls := "EarthMesh$Equations", name := "but", desc := "(II)J" } : Jvm.MethodName)) ∈ lw_all := lw_g (lw_at lw_m5 109 rfl) rfl
theorem q1199 : (Jvm.Cond.selects "EarthMesh$Equations" ({ cls := "EarthMesh$Equations", name := "but", desc := "(II)J" } : Jvm.MethodName) ({ cls := "EarthMesh$Equations", name := "but", desc := "(II)J" } : Jvm.MethodName)) ∈ lw_all := lw_g (lw_at lw_m5 110 rfl) rfl
theorem q1200 : (Jvm.Cond.code ({ cls := "EarthMesh$Equations", name := "but", desc := "(II)J" } : Jvm.MethodName) prog_5_method_3_code (5 : Nat) (Option.some Jvm.ClassFile.FieldType.long)) ∈ lw_all := lw_g (lw_at lw_m5 111 rfl) rfl
theorem q1237 : (Jvm.Cond.instanceMethod ({ cls := "EarthMesh$Equations", name := "of", desc := "(II)J" } : Jvm.MethodName)) ∈ lw_all := lw_g (lw_at lw_m5 148 rfl) rfl
theorem q1238 : (Jvm.Cond.selects "EarthMesh$Equations" ({ cls := "EarthMesh$Equations", name := "of", desc := "(II)J" } : Jvm.MethodName) ({ cls := "EarthMesh$Equations", name := "of", desc := "(II)J" } : Jvm.MethodName)) ∈ lw_all := lw_g (lw_at lw_m5 149 rfl) rfl
theorem q1239 : (Jvm.Cond.code ({ cls := "EarthMesh$Equations", name := "of", desc := "(II)J" } : Jvm.MethodName) prog_5_method_5_code (3 : Nat) (Option.some Jvm.ClassFile.FieldType.long)) ∈ lw_all := lw_g (lw_at lw_m5 150 rfl) rfl
theorem q1556 : (Jvm.Cond.instanceMethod ({ cls := "EarthMesh$Equations", name := "bordered", desc := "(III)J" } : Jvm.MethodName)) ∈ lw_all := lw_g (lw_at lw_m6 227 rfl) rfl
theorem q1557 : (Jvm.Cond.selects "EarthMesh$Equations" ({ cls := "EarthMesh$Equations", name := "bordered", desc := "(III)J" } : Jvm.MethodName) ({ cls := "EarthMesh$Equations", name := "bordered", desc := "(III)J" } : Jvm.MethodName)) ∈ lw_all := lw_g (lw_at lw_m6 228 rfl) rfl
theorem q1558 : (Jvm.Cond.code ({ cls := "EarthMesh$Equations", name := "bordered", desc := "(III)J" } : Jvm.MethodName) prog_5_method_6_code (7 : Nat) (Option.some Jvm.ClassFile.FieldType.long)) ∈ lw_all := lw_g (lw_at lw_m6 229 rfl) rfl
theorem q1559 : (Jvm.Cond.methodLink "EarthMesh$Equations" (79 : Nat) ({ cls := "EarthMesh$Equations", name := "laysRow", desc := "(IIIII)V" } : Jvm.MethodName)) ∈ lw_all := lw_g (lw_at lw_m6 230 rfl) rfl
theorem q1560 : (Jvm.Cond.privateMethod ({ cls := "EarthMesh$Equations", name := "laysRow", desc := "(IIIII)V" } : Jvm.MethodName)) ∈ lw_tbl := lw_at lw_m6 231 rfl
theorem q1561 : (Jvm.Cond.instanceMethod ({ cls := "EarthMesh$Equations", name := "laysRow", desc := "(IIIII)V" } : Jvm.MethodName)) ∈ lw_all := lw_g (lw_at lw_m6 232 rfl) rfl
theorem q1562 : (Jvm.Cond.code ({ cls := "EarthMesh$Equations", name := "laysRow", desc := "(IIIII)V" } : Jvm.MethodName) prog_5_method_7_code (8 : Nat) (Option.none : Option Jvm.ClassFile.FieldType)) ∈ lw_all := lw_g (lw_at lw_m6 233 rfl) rfl
theorem q2148 : (Jvm.Cond.castable "EarthMesh$Equations" "java/lang/Object") ∈ lw_tbl := lw_at lw_m9 99 rfl
theorem in_X3 : ∀ w ∈ wsX30, w ∈ lw_all := lw_in wsX30 [284, 286, 288, 290, 292, 294, 296, 298, 300] (by decide +kernel) (by decide +kernel)
def RX4 : String := "EarthMesh$Determinant"
def TX4 : u_T := fun k => match k with
  | 0 => ("EarthMesh$Determinant", "work", "[[J", true)
  | 1 => ("EarthMesh$Determinant", "inverse", "J", true)
  | 2 => ("EarthMesh$Determinant", "first", "[J", true)
  | _ => ("EarthMesh$Determinant", "second", "[J", true)
def tyX4 : Nat → FieldType := fun k => match k with
  | 0 => .array (.array .long)
  | 1 => .long
  | 2 => .array .long
  | _ => .array .long
abbrev wsX40 : List Cond := u_ws RX4 TX4 4
theorem nmX4 : ∀ a, a < 4 → ∀ b, b < 4 → a ≠ b → (TX4 a).2.1 ≠ (TX4 b).2.1 := by decide +kernel
theorem tyX4_ok : ∀ k, k < 4 → parseFieldDescriptor (TX4 k).2.2.1 = some (tyX4 k) := by decide +kernel
abbrev cX4_init : ByteArray := prog_4_method_1_code
def yX4_init : MethodName := ⟨RX4, "<init>", "()V"⟩
abbrev cX4_power : ByteArray := prog_4_method_2_code
def yX4_power : MethodName := ⟨RX4, "power", "(JJJ)J"⟩
abbrev cX4_of : ByteArray := prog_4_method_8_code
def yX4_of : MethodName := ⟨RX4, "of", "([[JI)J"⟩
abbrev cX4_left : ByteArray := prog_4_method_6_code
def yX4_left : MethodName := ⟨RX4, "left", "([[JIIJ)J"⟩
abbrev cX4_lays : ByteArray := prog_4_method_3_code
def yX4_lays : MethodName := ⟨RX4, "lays", "([[JIJ)V"⟩
abbrev cX4_pivot : ByteArray := prog_4_method_4_code
def yX4_pivot : MethodName := ⟨RX4, "pivot", "(II)I"⟩
abbrev cX4_swaps : ByteArray := prog_4_method_5_code
def yX4_swaps : MethodName := ⟨RX4, "swaps", "(II)V"⟩
abbrev cX4_clears : ByteArray := prog_4_method_7_code
def yX4_clears : MethodName := ⟨RX4, "clears", "(IIIJJ)V"⟩
abbrev cX4_both : ByteArray := prog_4_method_9_code
def yX4_both : MethodName := ⟨RX4, "both", "(JJ)J"⟩
abbrev cX4_lines : ByteArray := prog_4_method_11_code
def yX4_lines : MethodName := ⟨RX4, "lines", "([[JII[J)Z"⟩
abbrev cX4_clearsUp : ByteArray := prog_4_method_10_code
def yX4_clearsUp : MethodName := ⟨RX4, "clearsUp", "(IJJ[J)V"⟩
theorem q133 : (Jvm.Cond.initialized "EarthMesh$Determinant") ∈ lw_all := lw_g (lw_at lw_m1 4 rfl) rfl
theorem q248 : (Jvm.Cond.instantiable "EarthMesh$Determinant" (4 : Nat)) ∈ lw_all := lw_g (lw_at lw_m1 119 rfl) rfl
theorem q250 : (Jvm.Cond.instanceMethod ({ cls := "EarthMesh$Determinant", name := "<init>", desc := "()V" } : Jvm.MethodName)) ∈ lw_all := lw_g (lw_at lw_m1 121 rfl) rfl
theorem q251 : (Jvm.Cond.code ({ cls := "EarthMesh$Determinant", name := "<init>", desc := "()V" } : Jvm.MethodName) prog_4_method_1_code (1 : Nat) (Option.none : Option Jvm.ClassFile.FieldType)) ∈ lw_all := lw_g (lw_at lw_m1 122 rfl) rfl
theorem q252 : (Jvm.Cond.methodLink "EarthMesh$Determinant" (3 : Nat) ({ cls := "java/lang/Object", name := "<init>", desc := "()V" } : Jvm.MethodName)) ∈ lw_all := lw_g (lw_at lw_m1 123 rfl) rfl
theorem q253 : (Jvm.Cond.classLink "EarthMesh$Determinant" (9 : Nat) "[[J") ∈ lw_all := lw_g (lw_at lw_m1 124 rfl) rfl
theorem q254 : (Jvm.Cond.constantLong "EarthMesh$Determinant" (16 : Nat) (18 : Int64)) ∈ lw_all := lw_g (lw_at lw_m1 125 rfl) rfl
theorem q255 : (Jvm.Cond.constantLong "EarthMesh$Determinant" (18 : Nat) (2147483627 : Int64)) ∈ lw_all := lw_g (lw_at lw_m1 126 rfl) rfl
theorem q256 : (Jvm.Cond.constantLong "EarthMesh$Determinant" (20 : Nat) (2147483629 : Int64)) ∈ lw_all := lw_g (lw_at lw_m1 127 rfl) rfl
theorem q257 : (Jvm.Cond.methodLink "EarthMesh$Determinant" (22 : Nat) ({ cls := "EarthMesh$Determinant", name := "power", desc := "(JJJ)J" } : Jvm.MethodName)) ∈ lw_all := lw_g (lw_at lw_m1 128 rfl) rfl
theorem q258 : (Jvm.Cond.static ({ cls := "EarthMesh$Determinant", name := "power", desc := "(JJJ)J" } : Jvm.MethodName)) ∈ lw_all := lw_g (lw_at lw_m1 129 rfl) rfl
theorem q259 : (Jvm.Cond.code ({ cls := "EarthMesh$Determinant", name := "power", desc := "(JJJ)J" } : Jvm.MethodName) prog_4_method_2_code (12 : Nat) (Option.some Jvm.ClassFile.FieldType.long)) ∈ lw_all := lw_g (lw_at lw_m1 130 rfl) rfl
theorem q260 : (Jvm.Cond.fieldLink "EarthMesh$Determinant" (11 : Nat) "EarthMesh$Determinant" "work" "[[J") ∈ lw_all := lw_g (lw_at lw_m1 131 rfl) rfl
theorem q261 : (Jvm.Cond.fieldLink "EarthMesh$Determinant" (26 : Nat) "EarthMesh$Determinant" "inverse" "J") ∈ lw_all := lw_g (lw_at lw_m1 132 rfl) rfl
theorem q262 : (Jvm.Cond.fieldLink "EarthMesh$Determinant" (30 : Nat) "EarthMesh$Determinant" "first" "[J") ∈ lw_all := lw_g (lw_at lw_m1 133 rfl) rfl
theorem q263 : (Jvm.Cond.fieldLink "EarthMesh$Determinant" (34 : Nat) "EarthMesh$Determinant" "second" "[J") ∈ lw_all := lw_g (lw_at lw_m1 134 rfl) rfl
theorem q264 : (Jvm.Cond.laysFinal "EarthMesh$Determinant" "EarthMesh$Determinant" "work" "[[J") ∈ lw_all := lw_g (lw_at lw_m1 135 rfl) rfl
theorem q265 : (Jvm.Cond.soleField "EarthMesh$Determinant" "work") ∈ lw_all := lw_g (lw_at lw_m1 136 rfl) rfl
theorem q266 : (Jvm.Cond.laysFinal "EarthMesh$Determinant" "EarthMesh$Determinant" "inverse" "J") ∈ lw_all := lw_g (lw_at lw_m1 137 rfl) rfl
theorem q267 : (Jvm.Cond.soleField "EarthMesh$Determinant" "inverse") ∈ lw_all := lw_g (lw_at lw_m1 138 rfl) rfl
theorem q268 : (Jvm.Cond.laysFinal "EarthMesh$Determinant" "EarthMesh$Determinant" "first" "[J") ∈ lw_all := lw_g (lw_at lw_m1 139 rfl) rfl
theorem q269 : (Jvm.Cond.soleField "EarthMesh$Determinant" "first") ∈ lw_all := lw_g (lw_at lw_m1 140 rfl) rfl
theorem q270 : (Jvm.Cond.laysFinal "EarthMesh$Determinant" "EarthMesh$Determinant" "second" "[J") ∈ lw_all := lw_g (lw_at lw_m1 141 rfl) rfl
theorem q271 : (Jvm.Cond.soleField "EarthMesh$Determinant" "second") ∈ lw_all := lw_g (lw_at lw_m1 142 rfl) rfl
theorem q272 : (Jvm.Cond.superclass "EarthMesh$Determinant" "java/lang/Object") ∈ lw_all := lw_g (lw_at lw_m1 143 rfl) rfl
theorem q1151 : (Jvm.Cond.instanceMethod ({ cls := "EarthMesh$Determinant", name := "of", desc := "([[JI)J" } : Jvm.MethodName)) ∈ lw_all := lw_g (lw_at lw_m5 62 rfl) rfl
theorem q1152 : (Jvm.Cond.selects "EarthMesh$Determinant" ({ cls := "EarthMesh$Determinant", name := "of", desc := "([[JI)J" } : Jvm.MethodName) ({ cls := "EarthMesh$Determinant", name := "of", desc := "([[JI)J" } : Jvm.MethodName)) ∈ lw_all := lw_g (lw_at lw_m5 63 rfl) rfl
theorem q1153 : (Jvm.Cond.code ({ cls := "EarthMesh$Determinant", name := "of", desc := "([[JI)J" } : Jvm.MethodName) prog_4_method_8_code (3 : Nat) (Option.some Jvm.ClassFile.FieldType.long)) ∈ lw_all := lw_g (lw_at lw_m5 64 rfl) rfl
theorem q1154 : (Jvm.Cond.constantLong "EarthMesh$Determinant" (61 : Nat) (2147483647 : Int64)) ∈ lw_all := lw_g (lw_at lw_m5 65 rfl) rfl
theorem q1155 : (Jvm.Cond.methodLink "EarthMesh$Determinant" (63 : Nat) ({ cls := "EarthMesh$Determinant", name := "left", desc := "([[JIIJ)J" } : Jvm.MethodName)) ∈ lw_all := lw_g (lw_at lw_m5 66 rfl) rfl
theorem q1156 : (Jvm.Cond.privateMethod ({ cls := "EarthMesh$Determinant", name := "left", desc := "([[JIIJ)J" } : Jvm.MethodName)) ∈ lw_tbl := lw_at lw_m5 67 rfl
theorem q1157 : (Jvm.Cond.instanceMethod ({ cls := "EarthMesh$Determinant", name := "left", desc := "([[JIIJ)J" } : Jvm.MethodName)) ∈ lw_all := lw_g (lw_at lw_m5 68 rfl) rfl
theorem q1158 : (Jvm.Cond.code ({ cls := "EarthMesh$Determinant", name := "left", desc := "([[JIIJ)J" } : Jvm.MethodName) prog_4_method_6_code (13 : Nat) (Option.some Jvm.ClassFile.FieldType.long)) ∈ lw_all := lw_g (lw_at lw_m5 69 rfl) rfl
theorem q1159 : (Jvm.Cond.methodLink "EarthMesh$Determinant" (43 : Nat) ({ cls := "EarthMesh$Determinant", name := "lays", desc := "([[JIJ)V" } : Jvm.MethodName)) ∈ lw_all := lw_g (lw_at lw_m5 70 rfl) rfl
theorem q1160 : (Jvm.Cond.privateMethod ({ cls := "EarthMesh$Determinant", name := "lays", desc := "([[JIJ)V" } : Jvm.MethodName)) ∈ lw_tbl := lw_at lw_m5 71 rfl
theorem q1161 : (Jvm.Cond.instanceMethod ({ cls := "EarthMesh$Determinant", name := "lays", desc := "([[JIJ)V" } : Jvm.MethodName)) ∈ lw_all := lw_g (lw_at lw_m5 72 rfl) rfl
theorem q1162 : (Jvm.Cond.code ({ cls := "EarthMesh$Determinant", name := "lays", desc := "([[JIJ)V" } : Jvm.MethodName) prog_4_method_3_code (7 : Nat) (Option.none : Option Jvm.ClassFile.FieldType)) ∈ lw_all := lw_g (lw_at lw_m5 73 rfl) rfl
theorem q1163 : (Jvm.Cond.methodLink "EarthMesh$Determinant" (37 : Nat) ({ cls := "java/lang/Math", name := "floorMod", desc := "(JJ)J" } : Jvm.MethodName)) ∈ lw_all := lw_g (lw_at lw_m5 74 rfl) rfl
theorem q1166 : (Jvm.Cond.methodLink "EarthMesh$Determinant" (47 : Nat) ({ cls := "EarthMesh$Determinant", name := "pivot", desc := "(II)I" } : Jvm.MethodName)) ∈ lw_all := lw_g (lw_at lw_m5 77 rfl) rfl
theorem q1167 : (Jvm.Cond.privateMethod ({ cls := "EarthMesh$Determinant", name := "pivot", desc := "(II)I" } : Jvm.MethodName)) ∈ lw_tbl := lw_at lw_m5 78 rfl
theorem q1168 : (Jvm.Cond.instanceMethod ({ cls := "EarthMesh$Determinant", name := "pivot", desc := "(II)I" } : Jvm.MethodName)) ∈ lw_all := lw_g (lw_at lw_m5 79 rfl) rfl
theorem q1169 : (Jvm.Cond.code ({ cls := "EarthMesh$Determinant", name := "pivot", desc := "(II)I" } : Jvm.MethodName) prog_4_method_4_code (4 : Nat) (Option.some Jvm.ClassFile.FieldType.int)) ∈ lw_all := lw_g (lw_at lw_m5 80 rfl) rfl
theorem q1170 : (Jvm.Cond.methodLink "EarthMesh$Determinant" (51 : Nat) ({ cls := "EarthMesh$Determinant", name := "swaps", desc := "(II)V" } : Jvm.MethodName)) ∈ lw_all := lw_g (lw_at lw_m5 81 rfl) rfl
theorem q1171 : (Jvm.Cond.privateMethod ({ cls := "EarthMesh$Determinant", name := "swaps", desc := "(II)V" } : Jvm.MethodName)) ∈ lw_tbl := lw_at lw_m5 82 rfl
theorem q1172 : (Jvm.Cond.instanceMethod ({ cls := "EarthMesh$Determinant", name := "swaps", desc := "(II)V" } : Jvm.MethodName)) ∈ lw_all := lw_g (lw_at lw_m5 83 rfl) rfl
theorem q1173 : (Jvm.Cond.code ({ cls := "EarthMesh$Determinant", name := "swaps", desc := "(II)V" } : Jvm.MethodName) prog_4_method_5_code (4 : Nat) (Option.none : Option Jvm.ClassFile.FieldType)) ∈ lw_all := lw_g (lw_at lw_m5 84 rfl) rfl
theorem q1174 : (Jvm.Cond.constantLong "EarthMesh$Determinant" (55 : Nat) (2 : Int64)) ∈ lw_all := lw_g (lw_at lw_m5 85 rfl) rfl
theorem q1175 : (Jvm.Cond.methodLink "EarthMesh$Determinant" (57 : Nat) ({ cls := "EarthMesh$Determinant", name := "clears", desc := "(IIIJJ)V" } : Jvm.MethodName)) ∈ lw_all := lw_g (lw_at lw_m5 86 rfl) rfl
theorem q1176 : (Jvm.Cond.privateMethod ({ cls := "EarthMesh$Determinant", name := "clears", desc := "(IIIJJ)V" } : Jvm.MethodName)) ∈ lw_tbl := lw_at lw_m5 87 rfl
theorem q1177 : (Jvm.Cond.instanceMethod ({ cls := "EarthMesh$Determinant", name := "clears", desc := "(IIIJJ)V" } : Jvm.MethodName)) ∈ lw_all := lw_g (lw_at lw_m5 88 rfl) rfl
theorem q1178 : (Jvm.Cond.code ({ cls := "EarthMesh$Determinant", name := "clears", desc := "(IIIJJ)V" } : Jvm.MethodName) prog_4_method_7_code (11 : Nat) (Option.none : Option Jvm.ClassFile.FieldType)) ∈ lw_all := lw_g (lw_at lw_m5 89 rfl) rfl
theorem q1179 : (Jvm.Cond.methodLink "EarthMesh$Determinant" (67 : Nat) ({ cls := "EarthMesh$Determinant", name := "both", desc := "(JJ)J" } : Jvm.MethodName)) ∈ lw_all := lw_g (lw_at lw_m5 90 rfl) rfl
theorem q1180 : (Jvm.Cond.privateMethod ({ cls := "EarthMesh$Determinant", name := "both", desc := "(JJ)J" } : Jvm.MethodName)) ∈ lw_tbl := lw_at lw_m5 91 rfl
theorem q1181 : (Jvm.Cond.instanceMethod ({ cls := "EarthMesh$Determinant", name := "both", desc := "(JJ)J" } : Jvm.MethodName)) ∈ lw_all := lw_g (lw_at lw_m5 92 rfl) rfl
theorem q1182 : (Jvm.Cond.code ({ cls := "EarthMesh$Determinant", name := "both", desc := "(JJ)J" } : Jvm.MethodName) prog_4_method_9_code (9 : Nat) (Option.some Jvm.ClassFile.FieldType.long)) ∈ lw_all := lw_g (lw_at lw_m5 93 rfl) rfl
theorem q1183 : (Jvm.Cond.constantLong "EarthMesh$Determinant" (70 : Nat) (2305842986665115658 : Int64)) ∈ lw_all := lw_g (lw_at lw_m5 94 rfl) rfl
theorem q1184 : (Jvm.Cond.constantLong "EarthMesh$Determinant" (72 : Nat) (4611685975477714963 : Int64)) ∈ lw_all := lw_g (lw_at lw_m5 95 rfl) rfl
theorem q1190 : (Jvm.Cond.instanceMethod ({ cls := "EarthMesh$Determinant", name := "lines", desc := "([[JII[J)Z" } : Jvm.MethodName)) ∈ lw_all := lw_g (lw_at lw_m5 101 rfl) rfl
theorem q1191 : (Jvm.Cond.selects "EarthMesh$Determinant" ({ cls := "EarthMesh$Determinant", name := "lines", desc := "([[JII[J)Z" } : Jvm.MethodName) ({ cls := "EarthMesh$Determinant", name := "lines", desc := "([[JII[J)Z" } : Jvm.MethodName)) ∈ lw_all := lw_g (lw_at lw_m5 102 rfl) rfl
theorem q1192 : (Jvm.Cond.code ({ cls := "EarthMesh$Determinant", name := "lines", desc := "([[JII[J)Z" } : Jvm.MethodName) prog_4_method_11_code (10 : Nat) (Option.some Jvm.ClassFile.FieldType.boolean)) ∈ lw_all := lw_g (lw_at lw_m5 103 rfl) rfl
theorem q1193 : (Jvm.Cond.methodLink "EarthMesh$Determinant" (74 : Nat) ({ cls := "EarthMesh$Determinant", name := "clearsUp", desc := "(IJJ[J)V" } : Jvm.MethodName)) ∈ lw_all := lw_g (lw_at lw_m5 104 rfl) rfl
theorem q1194 : (Jvm.Cond.privateMethod ({ cls := "EarthMesh$Determinant", name := "clearsUp", desc := "(IJJ[J)V" } : Jvm.MethodName)) ∈ lw_tbl := lw_at lw_m5 105 rfl
theorem q1195 : (Jvm.Cond.instanceMethod ({ cls := "EarthMesh$Determinant", name := "clearsUp", desc := "(IJJ[J)V" } : Jvm.MethodName)) ∈ lw_all := lw_g (lw_at lw_m5 106 rfl) rfl
theorem q1196 : (Jvm.Cond.code ({ cls := "EarthMesh$Determinant", name := "clearsUp", desc := "(IJJ[J)V" } : Jvm.MethodName) prog_4_method_10_code (11 : Nat) (Option.none : Option Jvm.ClassFile.FieldType)) ∈ lw_all := lw_g (lw_at lw_m5 107 rfl) rfl
theorem q2149 : (Jvm.Cond.castable "EarthMesh$Determinant" "java/lang/Object") ∈ lw_tbl := lw_at lw_m9 100 rfl
theorem in_X4 : ∀ w ∈ wsX40, w ∈ lw_all := lw_in wsX40 [264, 266, 268, 270] (by decide +kernel) (by decide +kernel)
def RJ0 : String := "java/lang/Math"
abbrev cJ0_abs : ByteArray := prog_32_method_61_code
def yJ0_abs : MethodName := ⟨RJ0, "abs", "(J)J"⟩
abbrev cJ0_max : ByteArray := prog_32_method_66_code
def yJ0_max : MethodName := ⟨RJ0, "max", "(JJ)J"⟩
abbrev cJ0_max_2 : ByteArray := prog_32_method_65_code
def yJ0_max_2 : MethodName := ⟨RJ0, "max", "(II)I"⟩
abbrev cJ0_min : ByteArray := prog_32_method_69_code
def yJ0_min : MethodName := ⟨RJ0, "min", "(II)I"⟩
abbrev cJ0_floorMod : ByteArray := prog_32_method_52_code
def yJ0_floorMod : MethodName := ⟨RJ0, "floorMod", "(JJ)J"⟩
abbrev cJ0_min_2 : ByteArray := prog_32_method_70_code
def yJ0_min_2 : MethodName := ⟨RJ0, "min", "(JJ)J"⟩
theorem q134 : (Jvm.Cond.initialized "java/lang/Math") ∈ lw_all := lw_g (lw_at lw_m1 5 rfl) rfl
theorem q333 : (Jvm.Cond.static ({ cls := "java/lang/Math", name := "abs", desc := "(J)J" } : Jvm.MethodName)) ∈ lw_all := lw_g (lw_at lw_m1 204 rfl) rfl
theorem q334 : (Jvm.Cond.code ({ cls := "java/lang/Math", name := "abs", desc := "(J)J" } : Jvm.MethodName) prog_32_method_61_code (2 : Nat) (Option.some Jvm.ClassFile.FieldType.long)) ∈ lw_all := lw_g (lw_at lw_m1 205 rfl) rfl
theorem q340 : (Jvm.Cond.static ({ cls := "java/lang/Math", name := "max", desc := "(JJ)J" } : Jvm.MethodName)) ∈ lw_all := lw_g (lw_at lw_m1 211 rfl) rfl
theorem q341 : (Jvm.Cond.code ({ cls := "java/lang/Math", name := "max", desc := "(JJ)J" } : Jvm.MethodName) prog_32_method_66_code (4 : Nat) (Option.some Jvm.ClassFile.FieldType.long)) ∈ lw_all := lw_g (lw_at lw_m1 212 rfl) rfl
theorem q691 : (Jvm.Cond.static ({ cls := "java/lang/Math", name := "max", desc := "(II)I" } : Jvm.MethodName)) ∈ lw_all := lw_g (lw_at lw_m3 82 rfl) rfl
theorem q692 : (Jvm.Cond.code ({ cls := "java/lang/Math", name := "max", desc := "(II)I" } : Jvm.MethodName) prog_32_method_65_code (2 : Nat) (Option.some Jvm.ClassFile.FieldType.int)) ∈ lw_all := lw_g (lw_at lw_m3 83 rfl) rfl
theorem q709 : (Jvm.Cond.static ({ cls := "java/lang/Math", name := "min", desc := "(II)I" } : Jvm.MethodName)) ∈ lw_all := lw_g (lw_at lw_m3 100 rfl) rfl
theorem q710 : (Jvm.Cond.code ({ cls := "java/lang/Math", name := "min", desc := "(II)I" } : Jvm.MethodName) prog_32_method_69_code (2 : Nat) (Option.some Jvm.ClassFile.FieldType.int)) ∈ lw_all := lw_g (lw_at lw_m3 101 rfl) rfl
theorem q1164 : (Jvm.Cond.static ({ cls := "java/lang/Math", name := "floorMod", desc := "(JJ)J" } : Jvm.MethodName)) ∈ lw_all := lw_g (lw_at lw_m5 75 rfl) rfl
theorem q1165 : (Jvm.Cond.code ({ cls := "java/lang/Math", name := "floorMod", desc := "(JJ)J" } : Jvm.MethodName) prog_32_method_52_code (6 : Nat) (Option.some Jvm.ClassFile.FieldType.long)) ∈ lw_all := lw_g (lw_at lw_m5 76 rfl) rfl
theorem q1461 : (Jvm.Cond.static ({ cls := "java/lang/Math", name := "min", desc := "(JJ)J" } : Jvm.MethodName)) ∈ lw_all := lw_g (lw_at lw_m6 132 rfl) rfl
theorem q1462 : (Jvm.Cond.code ({ cls := "java/lang/Math", name := "min", desc := "(JJ)J" } : Jvm.MethodName) prog_32_method_70_code (4 : Nat) (Option.some Jvm.ClassFile.FieldType.long)) ∈ lw_all := lw_g (lw_at lw_m6 133 rfl) rfl
def RX5 : String := "EarthMesh$Bin"
def TX5 : u_T := fun k => match k with
  | _ => ("EarthMesh$Bin", "places", "[Ljava/lang/Object;", true)
def tyX5 : Nat → FieldType := fun k => match k with
  | _ => .array (.object "java/lang/Object")
abbrev wsX50 : List Cond := u_ws RX5 TX5 1
theorem nmX5 : ∀ a, a < 1 → ∀ b, b < 1 → a ≠ b → (TX5 a).2.1 ≠ (TX5 b).2.1 := by decide +kernel
theorem tyX5_ok : ∀ k, k < 1 → parseFieldDescriptor (TX5 k).2.2.1 = some (tyX5 k) := by decide +kernel
abbrev cX5_init : ByteArray := prog_3_method_1_code
def yX5_init : MethodName := ⟨RX5, "<init>", "(Z)V"⟩
abbrev cX5_firstEmpty : ByteArray := prog_3_method_2_code
def yX5_firstEmpty : MethodName := ⟨RX5, "firstEmpty", "()I"⟩
abbrev cX5_puts : ByteArray := prog_3_method_3_code
def yX5_puts : MethodName := ⟨RX5, "puts", "(ILjava/lang/Object;)Z"⟩
abbrev cX5_sizeOf : ByteArray := prog_3_method_4_code
def yX5_sizeOf : MethodName := ⟨RX5, "sizeOf", "(I)I"⟩
abbrev cX5_empties : ByteArray := prog_3_method_5_code
def yX5_empties : MethodName := ⟨RX5, "empties", "(I)V"⟩
theorem q135 : (Jvm.Cond.initialized "EarthMesh$Bin") ∈ lw_all := lw_g (lw_at lw_m1 6 rfl) rfl
theorem q344 : (Jvm.Cond.instantiable "EarthMesh$Bin" (1 : Nat)) ∈ lw_all := lw_g (lw_at lw_m1 215 rfl) rfl
theorem q346 : (Jvm.Cond.instanceMethod ({ cls := "EarthMesh$Bin", name := "<init>", desc := "(Z)V" } : Jvm.MethodName)) ∈ lw_all := lw_g (lw_at lw_m1 217 rfl) rfl
theorem q347 : (Jvm.Cond.code ({ cls := "EarthMesh$Bin", name := "<init>", desc := "(Z)V" } : Jvm.MethodName) prog_3_method_1_code (2 : Nat) (Option.none : Option Jvm.ClassFile.FieldType)) ∈ lw_all := lw_g (lw_at lw_m1 218 rfl) rfl
theorem q348 : (Jvm.Cond.methodLink "EarthMesh$Bin" (3 : Nat) ({ cls := "java/lang/Object", name := "<init>", desc := "()V" } : Jvm.MethodName)) ∈ lw_all := lw_g (lw_at lw_m1 219 rfl) rfl
theorem q349 : (Jvm.Cond.classLink "EarthMesh$Bin" (9 : Nat) "EarthMesh$Rod") ∈ lw_all := lw_g (lw_at lw_m1 220 rfl) rfl
theorem q351 : (Jvm.Cond.classLink "EarthMesh$Bin" (11 : Nat) "EarthMesh$Bar") ∈ lw_all := lw_g (lw_at lw_m1 222 rfl) rfl
theorem q353 : (Jvm.Cond.fieldLink "EarthMesh$Bin" (13 : Nat) "EarthMesh$Bin" "places" "[Ljava/lang/Object;") ∈ lw_all := lw_g (lw_at lw_m1 224 rfl) rfl
theorem q354 : (Jvm.Cond.laysFinal "EarthMesh$Bin" "EarthMesh$Bin" "places" "[Ljava/lang/Object;") ∈ lw_all := lw_g (lw_at lw_m1 225 rfl) rfl
theorem q355 : (Jvm.Cond.soleField "EarthMesh$Bin" "places") ∈ lw_all := lw_g (lw_at lw_m1 226 rfl) rfl
theorem q356 : (Jvm.Cond.superclass "EarthMesh$Bin" "java/lang/Object") ∈ lw_all := lw_g (lw_at lw_m1 227 rfl) rfl
theorem q464 : (Jvm.Cond.instanceMethod ({ cls := "EarthMesh$Bin", name := "firstEmpty", desc := "()I" } : Jvm.MethodName)) ∈ lw_all := lw_g (lw_at lw_m2 95 rfl) rfl
theorem q465 : (Jvm.Cond.selects "EarthMesh$Bin" ({ cls := "EarthMesh$Bin", name := "firstEmpty", desc := "()I" } : Jvm.MethodName) ({ cls := "EarthMesh$Bin", name := "firstEmpty", desc := "()I" } : Jvm.MethodName)) ∈ lw_all := lw_g (lw_at lw_m2 96 rfl) rfl
theorem q466 : (Jvm.Cond.code ({ cls := "EarthMesh$Bin", name := "firstEmpty", desc := "()I" } : Jvm.MethodName) prog_3_method_2_code (2 : Nat) (Option.some Jvm.ClassFile.FieldType.int)) ∈ lw_all := lw_g (lw_at lw_m2 97 rfl) rfl
theorem q474 : (Jvm.Cond.fieldLinkNest "EarthMesh$Bin" (21 : Nat) "EarthMesh$Bar" "size" "I" "EarthMesh") ∈ lw_tbl := lw_at lw_m2 105 rfl
theorem q485 : (Jvm.Cond.fieldLinkNest "EarthMesh$Bin" (25 : Nat) "EarthMesh$Rod" "size" "I" "EarthMesh") ∈ lw_tbl := lw_at lw_m2 116 rfl
theorem q490 : (Jvm.Cond.instanceMethod ({ cls := "EarthMesh$Bin", name := "puts", desc := "(ILjava/lang/Object;)Z" } : Jvm.MethodName)) ∈ lw_all := lw_g (lw_at lw_m2 121 rfl) rfl
theorem q491 : (Jvm.Cond.selects "EarthMesh$Bin" ({ cls := "EarthMesh$Bin", name := "puts", desc := "(ILjava/lang/Object;)Z" } : Jvm.MethodName) ({ cls := "EarthMesh$Bin", name := "puts", desc := "(ILjava/lang/Object;)Z" } : Jvm.MethodName)) ∈ lw_all := lw_g (lw_at lw_m2 122 rfl) rfl
theorem q492 : (Jvm.Cond.codeWith ({ cls := "EarthMesh$Bin", name := "puts", desc := "(ILjava/lang/Object;)Z" } : Jvm.MethodName) prog_3_method_3_code (4 : Nat) (Option.some Jvm.ClassFile.FieldType.boolean) [((0 : Nat), (8 : Nat), (9 : Nat), (19 : Nat))]) ∈ lw_all := lw_g (lw_at lw_m2 123 rfl) rfl
theorem q493 : (Jvm.Cond.classLink "EarthMesh$Bin" (19 : Nat) "java/lang/ArrayStoreException") ∈ lw_all := lw_g (lw_at lw_m2 124 rfl) rfl
theorem q571 : (Jvm.Cond.instanceMethod ({ cls := "EarthMesh$Bin", name := "sizeOf", desc := "(I)I" } : Jvm.MethodName)) ∈ lw_all := lw_g (lw_at lw_m2 202 rfl) rfl
theorem q572 : (Jvm.Cond.selects "EarthMesh$Bin" ({ cls := "EarthMesh$Bin", name := "sizeOf", desc := "(I)I" } : Jvm.MethodName) ({ cls := "EarthMesh$Bin", name := "sizeOf", desc := "(I)I" } : Jvm.MethodName)) ∈ lw_all := lw_g (lw_at lw_m2 203 rfl) rfl
theorem q573 : (Jvm.Cond.code ({ cls := "EarthMesh$Bin", name := "sizeOf", desc := "(I)I" } : Jvm.MethodName) prog_3_method_4_code (4 : Nat) (Option.some Jvm.ClassFile.FieldType.int)) ∈ lw_all := lw_g (lw_at lw_m2 204 rfl) rfl
theorem q575 : (Jvm.Cond.instanceMethod ({ cls := "EarthMesh$Bin", name := "empties", desc := "(I)V" } : Jvm.MethodName)) ∈ lw_all := lw_g (lw_at lw_m2 206 rfl) rfl
theorem q576 : (Jvm.Cond.selects "EarthMesh$Bin" ({ cls := "EarthMesh$Bin", name := "empties", desc := "(I)V" } : Jvm.MethodName) ({ cls := "EarthMesh$Bin", name := "empties", desc := "(I)V" } : Jvm.MethodName)) ∈ lw_all := lw_g (lw_at lw_m2 207 rfl) rfl
theorem q577 : (Jvm.Cond.code ({ cls := "EarthMesh$Bin", name := "empties", desc := "(I)V" } : Jvm.MethodName) prog_3_method_5_code (2 : Nat) (Option.none : Option Jvm.ClassFile.FieldType)) ∈ lw_all := lw_g (lw_at lw_m2 208 rfl) rfl
theorem q2150 : (Jvm.Cond.castable "EarthMesh$Bin" "java/lang/Object") ∈ lw_tbl := lw_at lw_m9 101 rfl
theorem in_X5 : ∀ w ∈ wsX50, w ∈ lw_all := lw_in wsX50 [354] (by decide +kernel) (by decide +kernel)
def RX6 : String := "EarthMeshModel"
def TX6 : u_T := fun k => match k with
  | 0 => ("EarthMeshModel", "words", "[Ljava/lang/String;", true)
  | 1 => ("EarthMeshModel", "code", "I", false)
  | 2 => ("EarthMeshModel", "now", "[I", true)
  | 3 => ("EarthMeshModel", "reading", "[I", true)
  | 4 => ("EarthMeshModel", "status", "[I", true)
  | 5 => ("EarthMeshModel", "tape", "[I", true)
  | 6 => ("EarthMeshModel", "taped", "I", false)
  | 7 => ("EarthMeshModel", "at", "I", false)
  | 8 => ("EarthMeshModel", "textSize", "I", false)
  | 9 => ("EarthMeshModel", "token", "I", false)
  | 10 => ("EarthMeshModel", "number", "I", false)
  | 11 => ("EarthMeshModel", "begins", "I", false)
  | 12 => ("EarthMeshModel", "stops", "I", false)
  | 13 => ("EarthMeshModel", "bad", "I", false)
  | 14 => ("EarthMeshModel", "badPlace", "I", false)
  | 15 => ("EarthMeshModel", "faultPlace", "I", false)
  | 16 => ("EarthMeshModel", "rows", "[J", true)
  | 17 => ("EarthMeshModel", "order", "[I", true)
  | 18 => ("EarthMeshModel", "many", "I", false)
  | 19 => ("EarthMeshModel", "below", "J", false)
  | 20 => ("EarthMeshModel", "volts", "[J", true)
  | 21 => ("EarthMeshModel", "joined", "I", false)
  | 22 => ("EarthMeshModel", "cut", "[J", true)
  | 23 => ("EarthMeshModel", "hundredths", "[I", true)
  | 24 => ("EarthMeshModel", "ground", "[J", true)
  | 25 => ("EarthMeshModel", "touch", "[J", true)
  | 26 => ("EarthMeshModel", "toll", "[J", true)
  | 27 => ("EarthMeshModel", "rounds", "[I", true)
  | 28 => ("EarthMeshModel", "then", "[I", true)
  | 29 => ("EarthMeshModel", "bestAbove", "J", false)
  | 30 => ("EarthMeshModel", "bestBelow", "J", false)
  | 31 => ("EarthMeshModel", "melts", "[Z", true)
  | 32 => ("EarthMeshModel", "price", "I", false)
  | 33 => ("EarthMeshModel", "howMany", "I", false)
  | 34 => ("EarthMeshModel", "lesser", "I", false)
  | 35 => ("EarthMeshModel", "greater", "I", false)
  | _ => ("EarthMeshModel", "stored", "[I", true)
def tyX6 : Nat → FieldType := fun k => match k with
  | 0 => .array (.object "java/lang/String")
  | 1 => .int
  | 2 => .array .int
  | 3 => .array .int
  | 4 => .array .int
  | 5 => .array .int
  | 6 => .int
  | 7 => .int
  | 8 => .int
  | 9 => .int
  | 10 => .int
  | 11 => .int
  | 12 => .int
  | 13 => .int
  | 14 => .int
  | 15 => .int
  | 16 => .array .long
  | 17 => .array .int
  | 18 => .int
  | 19 => .long
  | 20 => .array .long
  | 21 => .int
  | 22 => .array .long
  | 23 => .array .int
  | 24 => .array .long
  | 25 => .array .long
  | 26 => .array .long
  | 27 => .array .int
  | 28 => .array .int
  | 29 => .long
  | 30 => .long
  | 31 => .array .boolean
  | 32 => .int
  | 33 => .int
  | 34 => .int
  | 35 => .int
  | _ => .array .int
abbrev wsX60 : List Cond := u_ws RX6 TX6 37
theorem nmX6 : ∀ a, a < 37 → ∀ b, b < 37 → a ≠ b → (TX6 a).2.1 ≠ (TX6 b).2.1 := by decide +kernel
theorem tyX6_ok : ∀ k, k < 37 → parseFieldDescriptor (TX6 k).2.2.1 = some (tyX6 k) := by decide +kernel
abbrev cX6_init : ByteArray := prog_16_method_1_code
def yX6_init : MethodName := ⟨RX6, "<init>", "()V"⟩
abbrev cX6_empties : ByteArray := prog_16_method_5_code
def yX6_empties : MethodName := ⟨RX6, "empties", "([III)V"⟩
abbrev cX6_thrown : ByteArray := prog_16_method_2_code
def yX6_thrown : MethodName := ⟨RX6, "thrown", "()I"⟩
abbrev cX6_feed : ByteArray := prog_16_method_6_code
def yX6_feed : MethodName := ⟨RX6, "feed", "(IIIII)I"⟩
abbrev cX6_refuse : ByteArray := prog_16_method_91_code
def yX6_refuse : MethodName := ⟨RX6, "refuse", "()I"⟩
abbrev cX6_mesh : ByteArray := prog_16_method_20_code
def yX6_mesh : MethodName := ⟨RX6, "mesh", "(I)I"⟩
abbrev cX6_fail : ByteArray := prog_16_method_3_code
def yX6_fail : MethodName := ⟨RX6, "fail", "(I)I"⟩
abbrev cX6_stepOn : ByteArray := prog_16_method_10_code
def yX6_stepOn : MethodName := ⟨RX6, "stepOn", "()V"⟩
abbrev cX6_byteAt : ByteArray := prog_16_method_7_code
def yX6_byteAt : MethodName := ⟨RX6, "byteAt", "(I)I"⟩
abbrev cX6_isLetter : ByteArray := prog_16_method_8_code
def yX6_isLetter : MethodName := ⟨RX6, "isLetter", "(I)Z"⟩
abbrev cX6_isDigit : ByteArray := prog_16_method_9_code
def yX6_isDigit : MethodName := ⟨RX6, "isDigit", "(I)Z"⟩
abbrev cX6_is : ByteArray := prog_16_method_12_code
def yX6_is : MethodName := ⟨RX6, "is", "(Ljava/lang/String;)Z"⟩
abbrev cX6_wrong : ByteArray := prog_16_method_11_code
def yX6_wrong : MethodName := ⟨RX6, "wrong", "(I)V"⟩
abbrev cX6_pass : ByteArray := prog_16_method_14_code
def yX6_pass : MethodName := ⟨RX6, "pass", "()V"⟩
abbrev cX6_readNumber : ByteArray := prog_16_method_16_code
def yX6_readNumber : MethodName := ⟨RX6, "readNumber", "(II)I"⟩
abbrev cX6_numberNow : ByteArray := prog_16_method_15_code
def yX6_numberNow : MethodName := ⟨RX6, "numberNow", "(II)I"⟩
abbrev cX6_readEnd : ByteArray := prog_16_method_18_code
def yX6_readEnd : MethodName := ⟨RX6, "readEnd", "()V"⟩
abbrev cX6_readClause : ByteArray := prog_16_method_19_code
def yX6_readClause : MethodName := ⟨RX6, "readClause", "()V"⟩
abbrev cX6_which : ByteArray := prog_16_method_13_code
def yX6_which : MethodName := ⟨RX6, "which", "()I"⟩
abbrev cX6_readNode : ByteArray := prog_16_method_17_code
def yX6_readNode : MethodName := ⟨RX6, "readNode", "(I)I"⟩
abbrev cX6_mayBe : ByteArray := prog_16_method_23_code
def yX6_mayBe : MethodName := ⟨RX6, "mayBe", "([III)Z"⟩
abbrev cX6_fault : ByteArray := prog_16_method_21_code
def yX6_fault : MethodName := ⟨RX6, "fault", "()I"⟩
abbrev cX6_count : ByteArray := prog_16_method_42_code
def yX6_count : MethodName := ⟨RX6, "count", "(I)I"⟩
abbrev cX6_joinedTo : ByteArray := prog_16_method_26_code
def yX6_joinedTo : MethodName := ⟨RX6, "joinedTo", "(I)I"⟩
abbrev cX6_nodes : ByteArray := prog_16_method_22_code
def yX6_nodes : MethodName := ⟨RX6, "nodes", "([I)I"⟩
abbrev cX6_part : ByteArray := prog_16_method_24_code
def yX6_part : MethodName := ⟨RX6, "part", "(II)I"⟩
abbrev cX6_end : ByteArray := prog_16_method_25_code
def yX6_end : MethodName := ⟨RX6, "end", "(II)I"⟩
abbrev cX6_solvesNow : ByteArray := prog_16_method_38_code
def yX6_solvesNow : MethodName := ⟨RX6, "solvesNow", "()Z"⟩
abbrev cX6_solves : ByteArray := prog_16_method_37_code
def yX6_solves : MethodName := ⟨RX6, "solves", "(II)Z"⟩
abbrev cX6_leaks : ByteArray := prog_16_method_27_code
def yX6_leaks : MethodName := ⟨RX6, "leaks", "(I)Z"⟩
abbrev cX6_layRows : ByteArray := prog_16_method_34_code
def yX6_layRows : MethodName := ⟨RX6, "layRows", "(II)V"⟩
abbrev cX6_gOf : ByteArray := prog_16_method_33_code
def yX6_gOf : MethodName := ⟨RX6, "gOf", "(II)I"⟩
abbrev cX6_lay : ByteArray := prog_16_method_32_code
def yX6_lay : MethodName := ⟨RX6, "lay", "(IIJ)V"⟩
abbrev cX6_placeOf : ByteArray := prog_16_method_36_code
def yX6_placeOf : MethodName := ⟨RX6, "placeOf", "(I)I"⟩
abbrev cX6_clears : ByteArray := prog_16_method_35_code
def yX6_clears : MethodName := ⟨RX6, "clears", "(IZ)V"⟩
abbrev cX6_cell : ByteArray := prog_16_method_31_code
def yX6_cell : MethodName := ⟨RX6, "cell", "(II)J"⟩
abbrev cX6_exactly : ByteArray := prog_16_method_30_code
def yX6_exactly : MethodName := ⟨RX6, "exactly", "(JJJJJ)J"⟩
abbrev cX6_highOf : ByteArray := prog_16_method_28_code
def yX6_highOf : MethodName := ⟨RX6, "highOf", "(JJ)J"⟩
abbrev cX6_inverse : ByteArray := prog_16_method_29_code
def yX6_inverse : MethodName := ⟨RX6, "inverse", "(J)J"⟩
abbrev cX6_isSafe : ByteArray := prog_16_method_75_code
def yX6_isSafe : MethodName := ⟨RX6, "isSafe", "()Z"⟩
abbrev cX6_tellsGround : ByteArray := prog_16_method_52_code
def yX6_tellsGround : MethodName := ⟨RX6, "tellsGround", "()Z"⟩
abbrev cX6_points : ByteArray := prog_16_method_50_code
def yX6_points : MethodName := ⟨RX6, "points", "()I"⟩
abbrev cX6_pointsWide : ByteArray := prog_16_method_49_code
def yX6_pointsWide : MethodName := ⟨RX6, "pointsWide", "()I"⟩
abbrev cX6_tellGround : ByteArray := prog_16_method_51_code
def yX6_tellGround : MethodName := ⟨RX6, "tellGround", "(I)V"⟩
abbrev cX6_beside : ByteArray := prog_16_method_53_code
def yX6_beside : MethodName := ⟨RX6, "beside", "(II)I"⟩
abbrev cX6_step : ByteArray := prog_16_method_54_code
def yX6_step : MethodName := ⟨RX6, "step", "(II)J"⟩
abbrev cX6_missed : ByteArray := prog_16_method_71_code
def yX6_missed : MethodName := ⟨RX6, "missed", "()I"⟩
abbrev cX6_resists : ByteArray := prog_16_method_69_code
def yX6_resists : MethodName := ⟨RX6, "resists", "()I"⟩
abbrev cX6_compare : ByteArray := prog_16_method_41_code
def yX6_compare : MethodName := ⟨RX6, "compare", "(JJJJ)I"⟩
abbrev cX6_keepsBest : ByteArray := prog_16_method_70_code
def yX6_keepsBest : MethodName := ⟨RX6, "keepsBest", "()V"⟩
abbrev cX6_best : ByteArray := prog_16_method_72_code
def yX6_best : MethodName := ⟨RX6, "best", "()I"⟩
abbrev cX6_needed : ByteArray := prog_16_method_76_code
def yX6_needed : MethodName := ⟨RX6, "needed", "(Z)I"⟩
abbrev cX6_parts : ByteArray := prog_16_method_43_code
def yX6_parts : MethodName := ⟨RX6, "parts", "(I)I"⟩
abbrev cX6_limit : ByteArray := prog_16_method_77_code
def yX6_limit : MethodName := ⟨RX6, "limit", "()I"⟩
abbrev cX6_thinned : ByteArray := prog_16_method_78_code
def yX6_thinned : MethodName := ⟨RX6, "thinned", "(Z)I"⟩
abbrev cX6_tries : ByteArray := prog_16_method_67_code
def yX6_tries : MethodName := ⟨RX6, "tries", "()V"⟩
abbrev cX6_laysBack : ByteArray := prog_16_method_68_code
def yX6_laysBack : MethodName := ⟨RX6, "laysBack", "()V"⟩
abbrev cX6_node : ByteArray := prog_16_method_45_code
def yX6_node : MethodName := ⟨RX6, "node", "(II)I"⟩
abbrev cX6_isNode : ByteArray := prog_16_method_44_code
def yX6_isNode : MethodName := ⟨RX6, "isNode", "(I)Z"⟩
abbrev cX6_isIn : ByteArray := prog_16_method_4_code
def yX6_isIn : MethodName := ⟨RX6, "isIn", "(III)Z"⟩
abbrev cX6_at : ByteArray := prog_16_method_46_code
def yX6_at : MethodName := ⟨RX6, "at", "(IIZ)J"⟩
abbrev cX6_side : ByteArray := prog_16_method_40_code
def yX6_side : MethodName := ⟨RX6, "side", "(JJZ)J"⟩
abbrev cX6_common : ByteArray := prog_16_method_39_code
def yX6_common : MethodName := ⟨RX6, "common", "(JJ)J"⟩
abbrev cX6_bits : ByteArray := prog_16_method_47_code
def yX6_bits : MethodName := ⟨RX6, "bits", "(IZ)J"⟩
abbrev cX6_share : ByteArray := prog_16_method_48_code
def yX6_share : MethodName := ⟨RX6, "share", "(I)I"⟩
abbrev cX6_ground : ByteArray := prog_16_method_56_code
def yX6_ground : MethodName := ⟨RX6, "ground", "(IIZ)J"⟩
abbrev cX6_isPoint : ByteArray := prog_16_method_55_code
def yX6_isPoint : MethodName := ⟨RX6, "isPoint", "(I)Z"⟩
abbrev cX6_worst : ByteArray := prog_16_method_59_code
def yX6_worst : MethodName := ⟨RX6, "worst", "(I)I"⟩
abbrev cX6_worstStep : ByteArray := prog_16_method_57_code
def yX6_worstStep : MethodName := ⟨RX6, "worstStep", "()I"⟩
abbrev cX6_worstTouch : ByteArray := prog_16_method_58_code
def yX6_worstTouch : MethodName := ⟨RX6, "worstTouch", "()I"⟩
abbrev cX6_box : ByteArray := prog_16_method_60_code
def yX6_box : MethodName := ⟨RX6, "box", "(II)I"⟩
abbrev cX6_reach : ByteArray := prog_16_method_61_code
def yX6_reach : MethodName := ⟨RX6, "reach", "(I)I"⟩
abbrev cX6_walk : ByteArray := prog_16_method_65_code
def yX6_walk : MethodName := ⟨RX6, "walk", "(IIZ)J"⟩
abbrev cX6_walkRefusal : ByteArray := prog_16_method_64_code
def yX6_walkRefusal : MethodName := ⟨RX6, "walkRefusal", "(II)I"⟩
abbrev cX6_tollTo : ByteArray := prog_16_method_63_code
def yX6_tollTo : MethodName := ⟨RX6, "tollTo", "(II)J"⟩
abbrev cX6_lowers : ByteArray := prog_16_method_62_code
def yX6_lowers : MethodName := ⟨RX6, "lowers", "(IIJ)Z"⟩
abbrev cX6_walked : ByteArray := prog_16_method_66_code
def yX6_walked : MethodName := ⟨RX6, "walked", "(II)I"⟩
abbrev cX6_cascade : ByteArray := prog_16_method_74_code
def yX6_cascade : MethodName := ⟨RX6, "cascade", "(I)I"⟩
abbrev cX6_melt : ByteArray := prog_16_method_73_code
def yX6_melt : MethodName := ⟨RX6, "melt", "()Z"⟩
abbrev cX6_sweep : ByteArray := prog_16_method_80_code
def yX6_sweep : MethodName := ⟨RX6, "sweep", "(ZI)J"⟩
abbrev cX6_worstNow : ByteArray := prog_16_method_79_code
def yX6_worstNow : MethodName := ⟨RX6, "worstNow", "(Z)J"⟩
abbrev cX6_free : ByteArray := prog_16_method_82_code
def yX6_free : MethodName := ⟨RX6, "free", "(I)I"⟩
abbrev cX6_isRim : ByteArray := prog_16_method_81_code
def yX6_isRim : MethodName := ⟨RX6, "isRim", "(I)Z"⟩
abbrev cX6_cheapest : ByteArray := prog_16_method_88_code
def yX6_cheapest : MethodName := ⟨RX6, "cheapest", "(I)I"⟩
abbrev cX6_tellCheapest : ByteArray := prog_16_method_87_code
def yX6_tellCheapest : MethodName := ⟨RX6, "tellCheapest", "()V"⟩
abbrev cX6_weighs : ByteArray := prog_16_method_86_code
def yX6_weighs : MethodName := ⟨RX6, "weighs", "(IIII)V"⟩
abbrev cX6_numberOf : ByteArray := prog_16_method_85_code
def yX6_numberOf : MethodName := ⟨RX6, "numberOf", "(I)I"⟩
abbrev cX6_canBuild : ByteArray := prog_16_method_84_code
def yX6_canBuild : MethodName := ⟨RX6, "canBuild", "(I)Z"⟩
abbrev cX6_priceOf : ByteArray := prog_16_method_83_code
def yX6_priceOf : MethodName := ⟨RX6, "priceOf", "(I)I"⟩
abbrev cX6_between : ByteArray := prog_16_method_89_code
def yX6_between : MethodName := ⟨RX6, "between", "(IIZ)J"⟩
abbrev cX6_seen : ByteArray := prog_16_method_90_code
def yX6_seen : MethodName := ⟨RX6, "seen", "(IIIZ)J"⟩
abbrev cX6_tell : ByteArray := prog_16_method_92_code
def yX6_tell : MethodName := ⟨RX6, "tell", "(III)I"⟩
abbrev cX6_comes : ByteArray := prog_16_method_93_code
def yX6_comes : MethodName := ⟨RX6, "comes", "(II)I"⟩
abbrev cX6_put : ByteArray := prog_16_method_95_code
def yX6_put : MethodName := ⟨RX6, "put", "(IZI)I"⟩
abbrev cX6_freeIn : ByteArray := prog_16_method_94_code
def yX6_freeIn : MethodName := ⟨RX6, "freeIn", "(I)I"⟩
abbrev cX6_stored : ByteArray := prog_16_method_97_code
def yX6_stored : MethodName := ⟨RX6, "stored", "(II)I"⟩
abbrev cX6_isPlace : ByteArray := prog_16_method_96_code
def yX6_isPlace : MethodName := ⟨RX6, "isPlace", "(II)Z"⟩
abbrev cX6_build : ByteArray := prog_16_method_98_code
def yX6_build : MethodName := ⟨RX6, "build", "(IIIZ)I"⟩
theorem q136 : (Jvm.Cond.initialized "EarthMeshModel") ∈ lw_all := lw_g (lw_at lw_m1 7 rfl) rfl
theorem q1594 : (Jvm.Cond.instantiable "EarthMeshModel" (37 : Nat)) ∈ lw_all := lw_g (lw_at lw_m7 25 rfl) rfl
theorem q1596 : (Jvm.Cond.instanceMethod ({ cls := "EarthMeshModel", name := "<init>", desc := "()V" } : Jvm.MethodName)) ∈ lw_all := lw_g (lw_at lw_m7 27 rfl) rfl
theorem q1597 : (Jvm.Cond.code ({ cls := "EarthMeshModel", name := "<init>", desc := "()V" } : Jvm.MethodName) prog_16_method_1_code (1 : Nat) (Option.none : Option Jvm.ClassFile.FieldType)) ∈ lw_all := lw_g (lw_at lw_m7 28 rfl) rfl
theorem q1598 : (Jvm.Cond.methodLink "EarthMeshModel" (1 : Nat) ({ cls := "java/lang/Object", name := "<init>", desc := "()V" } : Jvm.MethodName)) ∈ lw_all := lw_g (lw_at lw_m7 29 rfl) rfl
theorem q1599 : (Jvm.Cond.classLink "EarthMeshModel" (7 : Nat) "java/lang/String") ∈ lw_all := lw_g (lw_at lw_m7 30 rfl) rfl
theorem q1601 : (Jvm.Cond.stringRef "EarthMeshModel" (9 : Nat) "across") ∈ lw_tbl := lw_at lw_m7 32 rfl
theorem q1602 : (Jvm.Cond.stringRef "EarthMeshModel" (11 : Nat) "up") ∈ lw_tbl := lw_at lw_m7 33 rfl
theorem q1603 : (Jvm.Cond.stringRef "EarthMeshModel" (13 : Nat) "rod") ∈ lw_tbl := lw_at lw_m7 34 rfl
theorem q1604 : (Jvm.Cond.stringRef "EarthMeshModel" (15 : Nat) "fault") ∈ lw_tbl := lw_at lw_m7 35 rfl
theorem q1605 : (Jvm.Cond.stringRef "EarthMeshModel" (17 : Nat) "cover") ∈ lw_tbl := lw_at lw_m7 36 rfl
theorem q1606 : (Jvm.Cond.stringRef "EarthMeshModel" (19 : Nat) "bound") ∈ lw_tbl := lw_at lw_m7 37 rfl
theorem q1607 : (Jvm.Cond.stringRef "EarthMeshModel" (21 : Nat) "price") ∈ lw_tbl := lw_at lw_m7 38 rfl
theorem q1608 : (Jvm.Cond.stringRef "EarthMeshModel" (23 : Nat) "bears") ∈ lw_tbl := lw_at lw_m7 39 rfl
theorem q1609 : (Jvm.Cond.methodLink "EarthMeshModel" (86 : Nat) ({ cls := "EarthMeshModel", name := "empties", desc := "([III)V" } : Jvm.MethodName)) ∈ lw_all := lw_g (lw_at lw_m7 40 rfl) rfl
theorem q1610 : (Jvm.Cond.static ({ cls := "EarthMeshModel", name := "empties", desc := "([III)V" } : Jvm.MethodName)) ∈ lw_all := lw_g (lw_at lw_m7 41 rfl) rfl
theorem q1611 : (Jvm.Cond.code ({ cls := "EarthMeshModel", name := "empties", desc := "([III)V" } : Jvm.MethodName) prog_16_method_5_code (4 : Nat) (Option.none : Option Jvm.ClassFile.FieldType)) ∈ lw_all := lw_g (lw_at lw_m7 42 rfl) rfl
theorem q1612 : (Jvm.Cond.fieldLink "EarthMeshModel" (25 : Nat) "EarthMeshModel" "words" "[Ljava/lang/String;") ∈ lw_all := lw_g (lw_at lw_m7 43 rfl) rfl
theorem q1613 : (Jvm.Cond.fieldLink "EarthMeshModel" (90 : Nat) "EarthMeshModel" "code" "I") ∈ lw_all := lw_g (lw_at lw_m7 44 rfl) rfl
theorem q1614 : (Jvm.Cond.fieldLink "EarthMeshModel" (31 : Nat) "EarthMeshModel" "now" "[I") ∈ lw_all := lw_g (lw_at lw_m7 45 rfl) rfl
theorem q1615 : (Jvm.Cond.fieldLink "EarthMeshModel" (35 : Nat) "EarthMeshModel" "reading" "[I") ∈ lw_all := lw_g (lw_at lw_m7 46 rfl) rfl
theorem q1616 : (Jvm.Cond.fieldLink "EarthMeshModel" (38 : Nat) "EarthMeshModel" "status" "[I") ∈ lw_all := lw_g (lw_at lw_m7 47 rfl) rfl
theorem q1617 : (Jvm.Cond.fieldLink "EarthMeshModel" (41 : Nat) "EarthMeshModel" "tape" "[I") ∈ lw_all := lw_g (lw_at lw_m7 48 rfl) rfl
theorem q1618 : (Jvm.Cond.fieldLink "EarthMeshModel" (93 : Nat) "EarthMeshModel" "taped" "I") ∈ lw_all := lw_g (lw_at lw_m7 49 rfl) rfl
theorem q1619 : (Jvm.Cond.fieldLink "EarthMeshModel" (103 : Nat) "EarthMeshModel" "at" "I") ∈ lw_all := lw_g (lw_at lw_m7 50 rfl) rfl
theorem q1620 : (Jvm.Cond.fieldLink "EarthMeshModel" (100 : Nat) "EarthMeshModel" "textSize" "I") ∈ lw_all := lw_g (lw_at lw_m7 51 rfl) rfl
theorem q1621 : (Jvm.Cond.fieldLink "EarthMeshModel" (113 : Nat) "EarthMeshModel" "token" "I") ∈ lw_all := lw_g (lw_at lw_m7 52 rfl) rfl
theorem q1622 : (Jvm.Cond.fieldLink "EarthMeshModel" (123 : Nat) "EarthMeshModel" "number" "I") ∈ lw_all := lw_g (lw_at lw_m7 53 rfl) rfl
theorem q1623 : (Jvm.Cond.fieldLink "EarthMeshModel" (110 : Nat) "EarthMeshModel" "begins" "I") ∈ lw_all := lw_g (lw_at lw_m7 54 rfl) rfl
theorem q1624 : (Jvm.Cond.fieldLink "EarthMeshModel" (133 : Nat) "EarthMeshModel" "stops" "I") ∈ lw_all := lw_g (lw_at lw_m7 55 rfl) rfl
theorem q1625 : (Jvm.Cond.fieldLink "EarthMeshModel" (136 : Nat) "EarthMeshModel" "bad" "I") ∈ lw_all := lw_g (lw_at lw_m7 56 rfl) rfl
theorem q1626 : (Jvm.Cond.fieldLink "EarthMeshModel" (139 : Nat) "EarthMeshModel" "badPlace" "I") ∈ lw_all := lw_g (lw_at lw_m7 57 rfl) rfl
theorem q1627 : (Jvm.Cond.fieldLink "EarthMeshModel" (44 : Nat) "EarthMeshModel" "faultPlace" "I") ∈ lw_all := lw_g (lw_at lw_m7 58 rfl) rfl
theorem q1628 : (Jvm.Cond.fieldLink "EarthMeshModel" (48 : Nat) "EarthMeshModel" "rows" "[J") ∈ lw_all := lw_g (lw_at lw_m7 59 rfl) rfl
theorem q1629 : (Jvm.Cond.fieldLink "EarthMeshModel" (52 : Nat) "EarthMeshModel" "order" "[I") ∈ lw_all := lw_g (lw_at lw_m7 60 rfl) rfl
theorem q1630 : (Jvm.Cond.fieldLink "EarthMeshModel" (223 : Nat) "EarthMeshModel" "many" "I") ∈ lw_all := lw_g (lw_at lw_m7 61 rfl) rfl
theorem q1631 : (Jvm.Cond.fieldLink "EarthMeshModel" (233 : Nat) "EarthMeshModel" "below" "J") ∈ lw_all := lw_g (lw_at lw_m7 62 rfl) rfl
theorem q1632 : (Jvm.Cond.fieldLink "EarthMeshModel" (55 : Nat) "EarthMeshModel" "volts" "[J") ∈ lw_all := lw_g (lw_at lw_m7 63 rfl) rfl
theorem q1633 : (Jvm.Cond.fieldLink "EarthMeshModel" (248 : Nat) "EarthMeshModel" "joined" "I") ∈ lw_all := lw_g (lw_at lw_m7 64 rfl) rfl
theorem q1634 : (Jvm.Cond.fieldLink "EarthMeshModel" (58 : Nat) "EarthMeshModel" "cut" "[J") ∈ lw_all := lw_g (lw_at lw_m7 65 rfl) rfl
theorem q1635 : (Jvm.Cond.fieldLink "EarthMeshModel" (61 : Nat) "EarthMeshModel" "hundredths" "[I") ∈ lw_all := lw_g (lw_at lw_m7 66 rfl) rfl
theorem q1636 : (Jvm.Cond.fieldLink "EarthMeshModel" (64 : Nat) "EarthMeshModel" "ground" "[J") ∈ lw_all := lw_g (lw_at lw_m7 67 rfl) rfl
theorem q1637 : (Jvm.Cond.fieldLink "EarthMeshModel" (67 : Nat) "EarthMeshModel" "touch" "[J") ∈ lw_all := lw_g (lw_at lw_m7 68 rfl) rfl
theorem q1638 : (Jvm.Cond.fieldLink "EarthMeshModel" (70 : Nat) "EarthMeshModel" "toll" "[J") ∈ lw_all := lw_g (lw_at lw_m7 69 rfl) rfl
theorem q1639 : (Jvm.Cond.fieldLink "EarthMeshModel" (73 : Nat) "EarthMeshModel" "rounds" "[I") ∈ lw_all := lw_g (lw_at lw_m7 70 rfl) rfl
theorem q1640 : (Jvm.Cond.fieldLink "EarthMeshModel" (76 : Nat) "EarthMeshModel" "then" "[I") ∈ lw_all := lw_g (lw_at lw_m7 71 rfl) rfl
theorem q1641 : (Jvm.Cond.fieldLink "EarthMeshModel" (371 : Nat) "EarthMeshModel" "bestAbove" "J") ∈ lw_all := lw_g (lw_at lw_m7 72 rfl) rfl
theorem q1642 : (Jvm.Cond.fieldLink "EarthMeshModel" (368 : Nat) "EarthMeshModel" "bestBelow" "J") ∈ lw_all := lw_g (lw_at lw_m7 73 rfl) rfl
theorem q1643 : (Jvm.Cond.fieldLink "EarthMeshModel" (79 : Nat) "EarthMeshModel" "melts" "[Z") ∈ lw_all := lw_g (lw_at lw_m7 74 rfl) rfl
theorem q1644 : (Jvm.Cond.fieldLink "EarthMeshModel" (400 : Nat) "EarthMeshModel" "price" "I") ∈ lw_all := lw_g (lw_at lw_m7 75 rfl) rfl
theorem q1645 : (Jvm.Cond.fieldLink "EarthMeshModel" (402 : Nat) "EarthMeshModel" "howMany" "I") ∈ lw_all := lw_g (lw_at lw_m7 76 rfl) rfl
theorem q1646 : (Jvm.Cond.fieldLink "EarthMeshModel" (408 : Nat) "EarthMeshModel" "lesser" "I") ∈ lw_all := lw_g (lw_at lw_m7 77 rfl) rfl
theorem q1647 : (Jvm.Cond.fieldLink "EarthMeshModel" (411 : Nat) "EarthMeshModel" "greater" "I") ∈ lw_all := lw_g (lw_at lw_m7 78 rfl) rfl
theorem q1648 : (Jvm.Cond.fieldLink "EarthMeshModel" (83 : Nat) "EarthMeshModel" "stored" "[I") ∈ lw_all := lw_g (lw_at lw_m7 79 rfl) rfl
theorem q1649 : (Jvm.Cond.laysFinal "EarthMeshModel" "EarthMeshModel" "words" "[Ljava/lang/String;") ∈ lw_all := lw_g (lw_at lw_m7 80 rfl) rfl
theorem q1650 : (Jvm.Cond.soleField "EarthMeshModel" "words") ∈ lw_all := lw_g (lw_at lw_m7 81 rfl) rfl
theorem q1651 : (Jvm.Cond.lays "EarthMeshModel" "EarthMeshModel" "code" "I") ∈ lw_all := lw_g (lw_at lw_m7 82 rfl) rfl
theorem q1652 : (Jvm.Cond.soleField "EarthMeshModel" "code") ∈ lw_all := lw_g (lw_at lw_m7 83 rfl) rfl
theorem q1653 : (Jvm.Cond.laysFinal "EarthMeshModel" "EarthMeshModel" "now" "[I") ∈ lw_all := lw_g (lw_at lw_m7 84 rfl) rfl
theorem q1654 : (Jvm.Cond.soleField "EarthMeshModel" "now") ∈ lw_all := lw_g (lw_at lw_m7 85 rfl) rfl
theorem q1655 : (Jvm.Cond.laysFinal "EarthMeshModel" "EarthMeshModel" "reading" "[I") ∈ lw_all := lw_g (lw_at lw_m7 86 rfl) rfl
theorem q1656 : (Jvm.Cond.soleField "EarthMeshModel" "reading") ∈ lw_all := lw_g (lw_at lw_m7 87 rfl) rfl
theorem q1657 : (Jvm.Cond.laysFinal "EarthMeshModel" "EarthMeshModel" "status" "[I") ∈ lw_all := lw_g (lw_at lw_m7 88 rfl) rfl
theorem q1658 : (Jvm.Cond.soleField "EarthMeshModel" "status") ∈ lw_all := lw_g (lw_at lw_m7 89 rfl) rfl
theorem q1659 : (Jvm.Cond.laysFinal "EarthMeshModel" "EarthMeshModel" "tape" "[I") ∈ lw_all := lw_g (lw_at lw_m7 90 rfl) rfl
theorem q1660 : (Jvm.Cond.soleField "EarthMeshModel" "tape") ∈ lw_all := lw_g (lw_at lw_m7 91 rfl) rfl
theorem q1661 : (Jvm.Cond.lays "EarthMeshModel" "EarthMeshModel" "taped" "I") ∈ lw_all := lw_g (lw_at lw_m7 92 rfl) rfl
theorem q1662 : (Jvm.Cond.soleField "EarthMeshModel" "taped") ∈ lw_all := lw_g (lw_at lw_m7 93 rfl) rfl
theorem q1663 : (Jvm.Cond.lays "EarthMeshModel" "EarthMeshModel" "at" "I") ∈ lw_all := lw_g (lw_at lw_m7 94 rfl) rfl
theorem q1664 : (Jvm.Cond.soleField "EarthMeshModel" "at") ∈ lw_all := lw_g (lw_at lw_m7 95 rfl) rfl
theorem q1665 : (Jvm.Cond.lays "EarthMeshModel" "EarthMeshModel" "textSize" "I") ∈ lw_all := lw_g (lw_at lw_m7 96 rfl) rfl
theorem q1666 : (Jvm.Cond.soleField "EarthMeshModel" "textSize") ∈ lw_all := lw_g (lw_at lw_m7 97 rfl) rfl
theorem q1667 : (Jvm.Cond.lays "EarthMeshModel" "EarthMeshModel" "token" "I") ∈ lw_all := lw_g (lw_at lw_m7 98 rfl) rfl
theorem q1668 : (Jvm.Cond.soleField "EarthMeshModel" "token") ∈ lw_all := lw_g (lw_at lw_m7 99 rfl) rfl
theorem q1669 : (Jvm.Cond.lays "EarthMeshModel" "EarthMeshModel" "number" "I") ∈ lw_all := lw_g (lw_at lw_m7 100 rfl) rfl
theorem q1670 : (Jvm.Cond.soleField "EarthMeshModel" "number") ∈ lw_all := lw_g (lw_at lw_m7 101 rfl) rfl
theorem q1671 : (Jvm.Cond.lays "EarthMeshModel" "EarthMeshModel" "begins" "I") ∈ lw_all := lw_g (lw_at lw_m7 102 rfl) rfl
theorem q1672 : (Jvm.Cond.soleField "EarthMeshModel" "begins") ∈ lw_all := lw_g (lw_at lw_m7 103 rfl) rfl
theorem q1673 : (Jvm.Cond.lays "EarthMeshModel" "EarthMeshModel" "stops" "I") ∈ lw_all := lw_g (lw_at lw_m7 104 rfl) rfl
theorem q1674 : (Jvm.Cond.soleField "EarthMeshModel" "stops") ∈ lw_all := lw_g (lw_at lw_m7 105 rfl) rfl
theorem q1675 : (Jvm.Cond.lays "EarthMeshModel" "EarthMeshModel" "bad" "I") ∈ lw_all := lw_g (lw_at lw_m7 106 rfl) rfl
theorem q1676 : (Jvm.Cond.soleField "EarthMeshModel" "bad") ∈ lw_all := lw_g (lw_at lw_m7 107 rfl) rfl
theorem q1677 : (Jvm.Cond.lays "EarthMeshModel" "EarthMeshModel" "badPlace" "I") ∈ lw_all := lw_g (lw_at lw_m7 108 rfl) rfl
theorem q1678 : (Jvm.Cond.soleField "EarthMeshModel" "badPlace") ∈ lw_all := lw_g (lw_at lw_m7 109 rfl) rfl
theorem q1679 : (Jvm.Cond.lays "EarthMeshModel" "EarthMeshModel" "faultPlace" "I") ∈ lw_all := lw_g (lw_at lw_m7 110 rfl) rfl
theorem q1680 : (Jvm.Cond.soleField "EarthMeshModel" "faultPlace") ∈ lw_all := lw_g (lw_at lw_m7 111 rfl) rfl
theorem q1681 : (Jvm.Cond.laysFinal "EarthMeshModel" "EarthMeshModel" "rows" "[J") ∈ lw_all := lw_g (lw_at lw_m7 112 rfl) rfl
theorem q1682 : (Jvm.Cond.soleField "EarthMeshModel" "rows") ∈ lw_all := lw_g (lw_at lw_m7 113 rfl) rfl
theorem q1683 : (Jvm.Cond.laysFinal "EarthMeshModel" "EarthMeshModel" "order" "[I") ∈ lw_all := lw_g (lw_at lw_m7 114 rfl) rfl
theorem q1684 : (Jvm.Cond.soleField "EarthMeshModel" "order") ∈ lw_all := lw_g (lw_at lw_m7 115 rfl) rfl
theorem q1685 : (Jvm.Cond.lays "EarthMeshModel" "EarthMeshModel" "many" "I") ∈ lw_all := lw_g (lw_at lw_m7 116 rfl) rfl
theorem q1686 : (Jvm.Cond.soleField "EarthMeshModel" "many") ∈ lw_all := lw_g (lw_at lw_m7 117 rfl) rfl
theorem q1687 : (Jvm.Cond.lays "EarthMeshModel" "EarthMeshModel" "below" "J") ∈ lw_all := lw_g (lw_at lw_m7 118 rfl) rfl
theorem q1688 : (Jvm.Cond.soleField "EarthMeshModel" "below") ∈ lw_all := lw_g (lw_at lw_m7 119 rfl) rfl
theorem q1689 : (Jvm.Cond.laysFinal "EarthMeshModel" "EarthMeshModel" "volts" "[J") ∈ lw_all := lw_g (lw_at lw_m7 120 rfl) rfl
theorem q1690 : (Jvm.Cond.soleField "EarthMeshModel" "volts") ∈ lw_all := lw_g (lw_at lw_m7 121 rfl) rfl
theorem q1691 : (Jvm.Cond.lays "EarthMeshModel" "EarthMeshModel" "joined" "I") ∈ lw_all := lw_g (lw_at lw_m7 122 rfl) rfl
theorem q1692 : (Jvm.Cond.soleField "EarthMeshModel" "joined") ∈ lw_all := lw_g (lw_at lw_m7 123 rfl) rfl
theorem q1693 : (Jvm.Cond.laysFinal "EarthMeshModel" "EarthMeshModel" "cut" "[J") ∈ lw_all := lw_g (lw_at lw_m7 124 rfl) rfl
theorem q1694 : (Jvm.Cond.soleField "EarthMeshModel" "cut") ∈ lw_all := lw_g (lw_at lw_m7 125 rfl) rfl
theorem q1695 : (Jvm.Cond.laysFinal "EarthMeshModel" "EarthMeshModel" "hundredths" "[I") ∈ lw_all := lw_g (lw_at lw_m7 126 rfl) rfl
theorem q1696 : (Jvm.Cond.soleField "EarthMeshModel" "hundredths") ∈ lw_all := lw_g (lw_at lw_m7 127 rfl) rfl
theorem q1697 : (Jvm.Cond.laysFinal "EarthMeshModel" "EarthMeshModel" "ground" "[J") ∈ lw_all := lw_g (lw_at lw_m7 128 rfl) rfl
theorem q1698 : (Jvm.Cond.soleField "EarthMeshModel" "ground") ∈ lw_all := lw_g (lw_at lw_m7 129 rfl) rfl
theorem q1699 : (Jvm.Cond.laysFinal "EarthMeshModel" "EarthMeshModel" "touch" "[J") ∈ lw_all := lw_g (lw_at lw_m7 130 rfl) rfl
theorem q1700 : (Jvm.Cond.soleField "EarthMeshModel" "touch") ∈ lw_all := lw_g (lw_at lw_m7 131 rfl) rfl
theorem q1701 : (Jvm.Cond.laysFinal "EarthMeshModel" "EarthMeshModel" "toll" "[J") ∈ lw_all := lw_g (lw_at lw_m7 132 rfl) rfl
theorem q1702 : (Jvm.Cond.soleField "EarthMeshModel" "toll") ∈ lw_all := lw_g (lw_at lw_m7 133 rfl) rfl
theorem q1703 : (Jvm.Cond.laysFinal "EarthMeshModel" "EarthMeshModel" "rounds" "[I") ∈ lw_all := lw_g (lw_at lw_m7 134 rfl) rfl
theorem q1704 : (Jvm.Cond.soleField "EarthMeshModel" "rounds") ∈ lw_all := lw_g (lw_at lw_m7 135 rfl) rfl
theorem q1705 : (Jvm.Cond.laysFinal "EarthMeshModel" "EarthMeshModel" "then" "[I") ∈ lw_all := lw_g (lw_at lw_m7 136 rfl) rfl
theorem q1706 : (Jvm.Cond.soleField "EarthMeshModel" "then") ∈ lw_all := lw_g (lw_at lw_m7 137 rfl) rfl
theorem q1707 : (Jvm.Cond.lays "EarthMeshModel" "EarthMeshModel" "bestAbove" "J") ∈ lw_all := lw_g (lw_at lw_m7 138 rfl) rfl
theorem q1708 : (Jvm.Cond.soleField "EarthMeshModel" "bestAbove") ∈ lw_all := lw_g (lw_at lw_m7 139 rfl) rfl
theorem q1709 : (Jvm.Cond.lays "EarthMeshModel" "EarthMeshModel" "bestBelow" "J") ∈ lw_all := lw_g (lw_at lw_m7 140 rfl) rfl
theorem q1710 : (Jvm.Cond.soleField "EarthMeshModel" "bestBelow") ∈ lw_all := lw_g (lw_at lw_m7 141 rfl) rfl
theorem q1711 : (Jvm.Cond.laysFinal "EarthMeshModel" "EarthMeshModel" "melts" "[Z") ∈ lw_all := lw_g (lw_at lw_m7 142 rfl) rfl
theorem q1712 : (Jvm.Cond.soleField "EarthMeshModel" "melts") ∈ lw_all := lw_g (lw_at lw_m7 143 rfl) rfl
theorem q1713 : (Jvm.Cond.lays "EarthMeshModel" "EarthMeshModel" "price" "I") ∈ lw_all := lw_g (lw_at lw_m7 144 rfl) rfl
theorem q1714 : (Jvm.Cond.soleField "EarthMeshModel" "price") ∈ lw_all := lw_g (lw_at lw_m7 145 rfl) rfl
theorem q1715 : (Jvm.Cond.lays "EarthMeshModel" "EarthMeshModel" "howMany" "I") ∈ lw_all := lw_g (lw_at lw_m7 146 rfl) rfl
theorem q1716 : (Jvm.Cond.soleField "EarthMeshModel" "howMany") ∈ lw_all := lw_g (lw_at lw_m7 147 rfl) rfl
theorem q1717 : (Jvm.Cond.lays "EarthMeshModel" "EarthMeshModel" "lesser" "I") ∈ lw_all := lw_g (lw_at lw_m7 148 rfl) rfl
theorem q1718 : (Jvm.Cond.soleField "EarthMeshModel" "lesser") ∈ lw_all := lw_g (lw_at lw_m7 149 rfl) rfl
theorem q1719 : (Jvm.Cond.lays "EarthMeshModel" "EarthMeshModel" "greater" "I") ∈ lw_all := lw_g (lw_at lw_m7 150 rfl) rfl
theorem q1720 : (Jvm.Cond.soleField "EarthMeshModel" "greater") ∈ lw_all := lw_g (lw_at lw_m7 151 rfl) rfl
theorem q1721 : (Jvm.Cond.laysFinal "EarthMeshModel" "EarthMeshModel" "stored" "[I") ∈ lw_all := lw_g (lw_at lw_m7 152 rfl) rfl
theorem q1722 : (Jvm.Cond.soleField "EarthMeshModel" "stored") ∈ lw_all := lw_g (lw_at lw_m7 153 rfl) rfl
theorem q1723 : (Jvm.Cond.superclass "EarthMeshModel" "java/lang/Object") ∈ lw_all := lw_g (lw_at lw_m7 154 rfl) rfl
theorem q1725 : (Jvm.Cond.instanceMethod ({ cls := "EarthMeshModel", name := "thrown", desc := "()I" } : Jvm.MethodName)) ∈ lw_all := lw_g (lw_at lw_m7 156 rfl) rfl
theorem q1726 : (Jvm.Cond.selects "EarthMeshModel" ({ cls := "EarthMeshModel", name := "thrown", desc := "()I" } : Jvm.MethodName) ({ cls := "EarthMeshModel", name := "thrown", desc := "()I" } : Jvm.MethodName)) ∈ lw_all := lw_g (lw_at lw_m7 157 rfl) rfl
theorem q1727 : (Jvm.Cond.code ({ cls := "EarthMeshModel", name := "thrown", desc := "()I" } : Jvm.MethodName) prog_16_method_2_code (1 : Nat) (Option.some Jvm.ClassFile.FieldType.int)) ∈ lw_all := lw_g (lw_at lw_m7 158 rfl) rfl
theorem q1729 : (Jvm.Cond.instanceMethod ({ cls := "EarthMeshModel", name := "feed", desc := "(IIIII)I" } : Jvm.MethodName)) ∈ lw_all := lw_g (lw_at lw_m7 160 rfl) rfl
theorem q1730 : (Jvm.Cond.selects "EarthMeshModel" ({ cls := "EarthMeshModel", name := "feed", desc := "(IIIII)I" } : Jvm.MethodName) ({ cls := "EarthMeshModel", name := "feed", desc := "(IIIII)I" } : Jvm.MethodName)) ∈ lw_all := lw_g (lw_at lw_m7 161 rfl) rfl
theorem q1731 : (Jvm.Cond.code ({ cls := "EarthMeshModel", name := "feed", desc := "(IIIII)I" } : Jvm.MethodName) prog_16_method_6_code (8 : Nat) (Option.some Jvm.ClassFile.FieldType.int)) ∈ lw_all := lw_g (lw_at lw_m7 162 rfl) rfl
theorem q1732 : (Jvm.Cond.methodLink "EarthMeshModel" (96 : Nat) ({ cls := "EarthMeshModel", name := "refuse", desc := "()I" } : Jvm.MethodName)) ∈ lw_all := lw_g (lw_at lw_m7 163 rfl) rfl
theorem q1733 : (Jvm.Cond.privateMethod ({ cls := "EarthMeshModel", name := "refuse", desc := "()I" } : Jvm.MethodName)) ∈ lw_tbl := lw_at lw_m7 164 rfl
theorem q1734 : (Jvm.Cond.instanceMethod ({ cls := "EarthMeshModel", name := "refuse", desc := "()I" } : Jvm.MethodName)) ∈ lw_all := lw_g (lw_at lw_m7 165 rfl) rfl
theorem q1735 : (Jvm.Cond.code ({ cls := "EarthMeshModel", name := "refuse", desc := "()I" } : Jvm.MethodName) prog_16_method_91_code (1 : Nat) (Option.some Jvm.ClassFile.FieldType.int)) ∈ lw_all := lw_g (lw_at lw_m7 166 rfl) rfl
theorem q1737 : (Jvm.Cond.instanceMethod ({ cls := "EarthMeshModel", name := "mesh", desc := "(I)I" } : Jvm.MethodName)) ∈ lw_all := lw_g (lw_at lw_m7 168 rfl) rfl
theorem q1738 : (Jvm.Cond.selects "EarthMeshModel" ({ cls := "EarthMeshModel", name := "mesh", desc := "(I)I" } : Jvm.MethodName) ({ cls := "EarthMeshModel", name := "mesh", desc := "(I)I" } : Jvm.MethodName)) ∈ lw_all := lw_g (lw_at lw_m7 169 rfl) rfl
theorem q1739 : (Jvm.Cond.code ({ cls := "EarthMeshModel", name := "mesh", desc := "(I)I" } : Jvm.MethodName) prog_16_method_20_code (5 : Nat) (Option.some Jvm.ClassFile.FieldType.int)) ∈ lw_all := lw_g (lw_at lw_m7 170 rfl) rfl
theorem q1740 : (Jvm.Cond.methodLink "EarthMeshModel" (182 : Nat) ({ cls := "EarthMeshModel", name := "fail", desc := "(I)I" } : Jvm.MethodName)) ∈ lw_all := lw_g (lw_at lw_m7 171 rfl) rfl
theorem q1741 : (Jvm.Cond.privateMethod ({ cls := "EarthMeshModel", name := "fail", desc := "(I)I" } : Jvm.MethodName)) ∈ lw_tbl := lw_at lw_m7 172 rfl
theorem q1742 : (Jvm.Cond.instanceMethod ({ cls := "EarthMeshModel", name := "fail", desc := "(I)I" } : Jvm.MethodName)) ∈ lw_all := lw_g (lw_at lw_m7 173 rfl) rfl
theorem q1743 : (Jvm.Cond.code ({ cls := "EarthMeshModel", name := "fail", desc := "(I)I" } : Jvm.MethodName) prog_16_method_3_code (2 : Nat) (Option.some Jvm.ClassFile.FieldType.int)) ∈ lw_all := lw_g (lw_at lw_m7 174 rfl) rfl
theorem q1744 : (Jvm.Cond.methodLink "EarthMeshModel" (153 : Nat) ({ cls := "EarthMeshModel", name := "stepOn", desc := "()V" } : Jvm.MethodName)) ∈ lw_all := lw_g (lw_at lw_m7 175 rfl) rfl
theorem q1745 : (Jvm.Cond.privateMethod ({ cls := "EarthMeshModel", name := "stepOn", desc := "()V" } : Jvm.MethodName)) ∈ lw_tbl := lw_at lw_m7 176 rfl
theorem q1746 : (Jvm.Cond.instanceMethod ({ cls := "EarthMeshModel", name := "stepOn", desc := "()V" } : Jvm.MethodName)) ∈ lw_all := lw_g (lw_at lw_m7 177 rfl) rfl
theorem q1747 : (Jvm.Cond.code ({ cls := "EarthMeshModel", name := "stepOn", desc := "()V" } : Jvm.MethodName) prog_16_method_10_code (2 : Nat) (Option.none : Option Jvm.ClassFile.FieldType)) ∈ lw_all := lw_g (lw_at lw_m7 178 rfl) rfl
theorem q1748 : (Jvm.Cond.methodLink "EarthMeshModel" (106 : Nat) ({ cls := "EarthMeshModel", name := "byteAt", desc := "(I)I" } : Jvm.MethodName)) ∈ lw_all := lw_g (lw_at lw_m7 179 rfl) rfl
theorem q1749 : (Jvm.Cond.privateMethod ({ cls := "EarthMeshModel", name := "byteAt", desc := "(I)I" } : Jvm.MethodName)) ∈ lw_tbl := lw_at lw_m7 180 rfl
theorem q1750 : (Jvm.Cond.instanceMethod ({ cls := "EarthMeshModel", name := "byteAt", desc := "(I)I" } : Jvm.MethodName)) ∈ lw_all := lw_g (lw_at lw_m7 181 rfl) rfl
theorem q1751 : (Jvm.Cond.code ({ cls := "EarthMeshModel", name := "byteAt", desc := "(I)I" } : Jvm.MethodName) prog_16_method_7_code (2 : Nat) (Option.some Jvm.ClassFile.FieldType.int)) ∈ lw_all := lw_g (lw_at lw_m7 182 rfl) rfl
theorem q1752 : (Jvm.Cond.methodLink "EarthMeshModel" (116 : Nat) ({ cls := "EarthMeshModel", name := "isLetter", desc := "(I)Z" } : Jvm.MethodName)) ∈ lw_all := lw_g (lw_at lw_m7 183 rfl) rfl
theorem q1753 : (Jvm.Cond.static ({ cls := "EarthMeshModel", name := "isLetter", desc := "(I)Z" } : Jvm.MethodName)) ∈ lw_all := lw_g (lw_at lw_m7 184 rfl) rfl
theorem q1754 : (Jvm.Cond.code ({ cls := "EarthMeshModel", name := "isLetter", desc := "(I)Z" } : Jvm.MethodName) prog_16_method_8_code (1 : Nat) (Option.some Jvm.ClassFile.FieldType.boolean)) ∈ lw_all := lw_g (lw_at lw_m7 185 rfl) rfl
theorem q1755 : (Jvm.Cond.methodLink "EarthMeshModel" (120 : Nat) ({ cls := "EarthMeshModel", name := "isDigit", desc := "(I)Z" } : Jvm.MethodName)) ∈ lw_all := lw_g (lw_at lw_m7 186 rfl) rfl
theorem q1756 : (Jvm.Cond.static ({ cls := "EarthMeshModel", name := "isDigit", desc := "(I)Z" } : Jvm.MethodName)) ∈ lw_all := lw_g (lw_at lw_m7 187 rfl) rfl
theorem q1757 : (Jvm.Cond.code ({ cls := "EarthMeshModel", name := "isDigit", desc := "(I)Z" } : Jvm.MethodName) prog_16_method_9_code (1 : Nat) (Option.some Jvm.ClassFile.FieldType.boolean)) ∈ lw_all := lw_g (lw_at lw_m7 188 rfl) rfl
theorem q1758 : (Jvm.Cond.constant "EarthMeshModel" (126 : Nat) (100000 : Int32)) ∈ lw_all := lw_g (lw_at lw_m7 189 rfl) rfl
theorem q1759 : (Jvm.Cond.methodLink "EarthMeshModel" (127 : Nat) ({ cls := "java/lang/Math", name := "min", desc := "(II)I" } : Jvm.MethodName)) ∈ lw_all := lw_g (lw_at lw_m7 190 rfl) rfl
theorem q1760 : (Jvm.Cond.stringRef "EarthMeshModel" (185 : Nat) "mesh") ∈ lw_tbl := lw_at lw_m7 191 rfl
theorem q1761 : (Jvm.Cond.methodLink "EarthMeshModel" (149 : Nat) ({ cls := "EarthMeshModel", name := "is", desc := "(Ljava/lang/String;)Z" } : Jvm.MethodName)) ∈ lw_all := lw_g (lw_at lw_m7 192 rfl) rfl
theorem q1762 : (Jvm.Cond.privateMethod ({ cls := "EarthMeshModel", name := "is", desc := "(Ljava/lang/String;)Z" } : Jvm.MethodName)) ∈ lw_tbl := lw_at lw_m7 193 rfl
theorem q1763 : (Jvm.Cond.instanceMethod ({ cls := "EarthMeshModel", name := "is", desc := "(Ljava/lang/String;)Z" } : Jvm.MethodName)) ∈ lw_all := lw_g (lw_at lw_m7 194 rfl) rfl
theorem q1764 : (Jvm.Cond.code ({ cls := "EarthMeshModel", name := "is", desc := "(Ljava/lang/String;)Z" } : Jvm.MethodName) prog_16_method_12_code (4 : Nat) (Option.some Jvm.ClassFile.FieldType.boolean)) ∈ lw_all := lw_g (lw_at lw_m7 195 rfl) rfl
theorem q1765 : (Jvm.Cond.methodLink "EarthMeshModel" (142 : Nat) ({ cls := "java/lang/String", name := "length", desc := "()I" } : Jvm.MethodName)) ∈ lw_all := lw_g (lw_at lw_m7 196 rfl) rfl
theorem q1766 : (Jvm.Cond.methodLink "EarthMeshModel" (145 : Nat) ({ cls := "java/lang/String", name := "charAt", desc := "(I)C" } : Jvm.MethodName)) ∈ lw_all := lw_g (lw_at lw_m7 197 rfl) rfl
theorem q1777 : (Jvm.Cond.methodLink "EarthMeshModel" (156 : Nat) ({ cls := "EarthMeshModel", name := "wrong", desc := "(I)V" } : Jvm.MethodName)) ∈ lw_all := lw_g (lw_at lw_m7 208 rfl) rfl
theorem q1778 : (Jvm.Cond.privateMethod ({ cls := "EarthMeshModel", name := "wrong", desc := "(I)V" } : Jvm.MethodName)) ∈ lw_tbl := lw_at lw_m7 209 rfl
theorem q1779 : (Jvm.Cond.instanceMethod ({ cls := "EarthMeshModel", name := "wrong", desc := "(I)V" } : Jvm.MethodName)) ∈ lw_all := lw_g (lw_at lw_m7 210 rfl) rfl
theorem q1780 : (Jvm.Cond.code ({ cls := "EarthMeshModel", name := "wrong", desc := "(I)V" } : Jvm.MethodName) prog_16_method_11_code (2 : Nat) (Option.none : Option Jvm.ClassFile.FieldType)) ∈ lw_all := lw_g (lw_at lw_m7 211 rfl) rfl
theorem q1781 : (Jvm.Cond.methodLink "EarthMeshModel" (163 : Nat) ({ cls := "EarthMeshModel", name := "pass", desc := "()V" } : Jvm.MethodName)) ∈ lw_all := lw_g (lw_at lw_m7 212 rfl) rfl
theorem q1782 : (Jvm.Cond.privateMethod ({ cls := "EarthMeshModel", name := "pass", desc := "()V" } : Jvm.MethodName)) ∈ lw_tbl := lw_at lw_m7 213 rfl
theorem q1783 : (Jvm.Cond.instanceMethod ({ cls := "EarthMeshModel", name := "pass", desc := "()V" } : Jvm.MethodName)) ∈ lw_all := lw_g (lw_at lw_m7 214 rfl) rfl
theorem q1784 : (Jvm.Cond.code ({ cls := "EarthMeshModel", name := "pass", desc := "()V" } : Jvm.MethodName) prog_16_method_14_code (1 : Nat) (Option.none : Option Jvm.ClassFile.FieldType)) ∈ lw_all := lw_g (lw_at lw_m7 215 rfl) rfl
theorem q1785 : (Jvm.Cond.methodLink "EarthMeshModel" (176 : Nat) ({ cls := "EarthMeshModel", name := "readNumber", desc := "(II)I" } : Jvm.MethodName)) ∈ lw_all := lw_g (lw_at lw_m7 216 rfl) rfl
theorem q1786 : (Jvm.Cond.privateMethod ({ cls := "EarthMeshModel", name := "readNumber", desc := "(II)I" } : Jvm.MethodName)) ∈ lw_tbl := lw_at lw_m7 217 rfl
theorem q1787 : (Jvm.Cond.instanceMethod ({ cls := "EarthMeshModel", name := "readNumber", desc := "(II)I" } : Jvm.MethodName)) ∈ lw_all := lw_g (lw_at lw_m7 218 rfl) rfl
theorem q1788 : (Jvm.Cond.code ({ cls := "EarthMeshModel", name := "readNumber", desc := "(II)I" } : Jvm.MethodName) prog_16_method_16_code (4 : Nat) (Option.some Jvm.ClassFile.FieldType.int)) ∈ lw_all := lw_g (lw_at lw_m7 219 rfl) rfl
theorem q1789 : (Jvm.Cond.methodLink "EarthMeshModel" (160 : Nat) ({ cls := "EarthMeshModel", name := "numberNow", desc := "(II)I" } : Jvm.MethodName)) ∈ lw_all := lw_g (lw_at lw_m7 220 rfl) rfl
theorem q1790 : (Jvm.Cond.privateMethod ({ cls := "EarthMeshModel", name := "numberNow", desc := "(II)I" } : Jvm.MethodName)) ∈ lw_tbl := lw_at lw_m7 221 rfl
theorem q1791 : (Jvm.Cond.instanceMethod ({ cls := "EarthMeshModel", name := "numberNow", desc := "(II)I" } : Jvm.MethodName)) ∈ lw_all := lw_g (lw_at lw_m7 222 rfl) rfl
theorem q1792 : (Jvm.Cond.code ({ cls := "EarthMeshModel", name := "numberNow", desc := "(II)I" } : Jvm.MethodName) prog_16_method_15_code (3 : Nat) (Option.some Jvm.ClassFile.FieldType.int)) ∈ lw_all := lw_g (lw_at lw_m7 223 rfl) rfl
theorem q1793 : (Jvm.Cond.methodLink "EarthMeshModel" (179 : Nat) ({ cls := "EarthMeshModel", name := "readEnd", desc := "()V" } : Jvm.MethodName)) ∈ lw_all := lw_g (lw_at lw_m7 224 rfl) rfl
theorem q1794 : (Jvm.Cond.privateMethod ({ cls := "EarthMeshModel", name := "readEnd", desc := "()V" } : Jvm.MethodName)) ∈ lw_tbl := lw_at lw_m7 225 rfl
theorem q1795 : (Jvm.Cond.instanceMethod ({ cls := "EarthMeshModel", name := "readEnd", desc := "()V" } : Jvm.MethodName)) ∈ lw_all := lw_g (lw_at lw_m7 226 rfl) rfl
theorem q1796 : (Jvm.Cond.code ({ cls := "EarthMeshModel", name := "readEnd", desc := "()V" } : Jvm.MethodName) prog_16_method_18_code (1 : Nat) (Option.none : Option Jvm.ClassFile.FieldType)) ∈ lw_all := lw_g (lw_at lw_m7 227 rfl) rfl
theorem q1797 : (Jvm.Cond.methodLink "EarthMeshModel" (187 : Nat) ({ cls := "EarthMeshModel", name := "readClause", desc := "()V" } : Jvm.MethodName)) ∈ lw_all := lw_g (lw_at lw_m7 228 rfl) rfl
theorem q1798 : (Jvm.Cond.privateMethod ({ cls := "EarthMeshModel", name := "readClause", desc := "()V" } : Jvm.MethodName)) ∈ lw_tbl := lw_at lw_m7 229 rfl
theorem q1799 : (Jvm.Cond.instanceMethod ({ cls := "EarthMeshModel", name := "readClause", desc := "()V" } : Jvm.MethodName)) ∈ lw_all := lw_g (lw_at lw_m7 230 rfl) rfl
theorem q1800 : (Jvm.Cond.code ({ cls := "EarthMeshModel", name := "readClause", desc := "()V" } : Jvm.MethodName) prog_16_method_19_code (3 : Nat) (Option.none : Option Jvm.ClassFile.FieldType)) ∈ lw_all := lw_g (lw_at lw_m7 231 rfl) rfl
theorem q1801 : (Jvm.Cond.methodLink "EarthMeshModel" (170 : Nat) ({ cls := "EarthMeshModel", name := "which", desc := "()I" } : Jvm.MethodName)) ∈ lw_all := lw_g (lw_at lw_m7 232 rfl) rfl
theorem q1802 : (Jvm.Cond.privateMethod ({ cls := "EarthMeshModel", name := "which", desc := "()I" } : Jvm.MethodName)) ∈ lw_tbl := lw_at lw_m7 233 rfl
theorem q1803 : (Jvm.Cond.instanceMethod ({ cls := "EarthMeshModel", name := "which", desc := "()I" } : Jvm.MethodName)) ∈ lw_all := lw_g (lw_at lw_m7 234 rfl) rfl
theorem q1804 : (Jvm.Cond.code ({ cls := "EarthMeshModel", name := "which", desc := "()I" } : Jvm.MethodName) prog_16_method_13_code (2 : Nat) (Option.some Jvm.ClassFile.FieldType.int)) ∈ lw_all := lw_g (lw_at lw_m7 235 rfl) rfl
theorem q1805 : (Jvm.Cond.methodLink "EarthMeshModel" (173 : Nat) ({ cls := "EarthMeshModel", name := "readNode", desc := "(I)I" } : Jvm.MethodName)) ∈ lw_all := lw_g (lw_at lw_m7 236 rfl) rfl
theorem q1806 : (Jvm.Cond.privateMethod ({ cls := "EarthMeshModel", name := "readNode", desc := "(I)I" } : Jvm.MethodName)) ∈ lw_tbl := lw_at lw_m7 237 rfl
theorem q1807 : (Jvm.Cond.instanceMethod ({ cls := "EarthMeshModel", name := "readNode", desc := "(I)I" } : Jvm.MethodName)) ∈ lw_all := lw_g (lw_at lw_m7 238 rfl) rfl
theorem q1808 : (Jvm.Cond.code ({ cls := "EarthMeshModel", name := "readNode", desc := "(I)I" } : Jvm.MethodName) prog_16_method_17_code (3 : Nat) (Option.some Jvm.ClassFile.FieldType.int)) ∈ lw_all := lw_g (lw_at lw_m7 239 rfl) rfl
theorem q1809 : (Jvm.Cond.methodLink "EarthMeshModel" (166 : Nat) ({ cls := "EarthMeshModel", name := "mayBe", desc := "([III)Z" } : Jvm.MethodName)) ∈ lw_all := lw_g (lw_at lw_m8 0 rfl) rfl
theorem q1810 : (Jvm.Cond.static ({ cls := "EarthMeshModel", name := "mayBe", desc := "([III)Z" } : Jvm.MethodName)) ∈ lw_all := lw_g (lw_at lw_m8 1 rfl) rfl
theorem q1811 : (Jvm.Cond.code ({ cls := "EarthMeshModel", name := "mayBe", desc := "([III)Z" } : Jvm.MethodName) prog_16_method_23_code (3 : Nat) (Option.some Jvm.ClassFile.FieldType.boolean)) ∈ lw_all := lw_g (lw_at lw_m8 2 rfl) rfl
theorem q1813 : (Jvm.Cond.instanceMethod ({ cls := "EarthMeshModel", name := "fault", desc := "()I" } : Jvm.MethodName)) ∈ lw_all := lw_g (lw_at lw_m8 4 rfl) rfl
theorem q1814 : (Jvm.Cond.selects "EarthMeshModel" ({ cls := "EarthMeshModel", name := "fault", desc := "()I" } : Jvm.MethodName) ({ cls := "EarthMeshModel", name := "fault", desc := "()I" } : Jvm.MethodName)) ∈ lw_all := lw_g (lw_at lw_m8 5 rfl) rfl
theorem q1815 : (Jvm.Cond.code ({ cls := "EarthMeshModel", name := "fault", desc := "()I" } : Jvm.MethodName) prog_16_method_21_code (1 : Nat) (Option.some Jvm.ClassFile.FieldType.int)) ∈ lw_all := lw_g (lw_at lw_m8 6 rfl) rfl
theorem q1817 : (Jvm.Cond.instanceMethod ({ cls := "EarthMeshModel", name := "count", desc := "(I)I" } : Jvm.MethodName)) ∈ lw_all := lw_g (lw_at lw_m8 8 rfl) rfl
theorem q1818 : (Jvm.Cond.selects "EarthMeshModel" ({ cls := "EarthMeshModel", name := "count", desc := "(I)I" } : Jvm.MethodName) ({ cls := "EarthMeshModel", name := "count", desc := "(I)I" } : Jvm.MethodName)) ∈ lw_all := lw_g (lw_at lw_m8 9 rfl) rfl
theorem q1819 : (Jvm.Cond.code ({ cls := "EarthMeshModel", name := "count", desc := "(I)I" } : Jvm.MethodName) prog_16_method_42_code (2 : Nat) (Option.some Jvm.ClassFile.FieldType.int)) ∈ lw_all := lw_g (lw_at lw_m8 10 rfl) rfl
theorem q1820 : (Jvm.Cond.methodLink "EarthMeshModel" (245 : Nat) ({ cls := "EarthMeshModel", name := "joinedTo", desc := "(I)I" } : Jvm.MethodName)) ∈ lw_all := lw_g (lw_at lw_m8 11 rfl) rfl
theorem q1821 : (Jvm.Cond.privateMethod ({ cls := "EarthMeshModel", name := "joinedTo", desc := "(I)I" } : Jvm.MethodName)) ∈ lw_tbl := lw_at lw_m8 12 rfl
theorem q1822 : (Jvm.Cond.instanceMethod ({ cls := "EarthMeshModel", name := "joinedTo", desc := "(I)I" } : Jvm.MethodName)) ∈ lw_all := lw_g (lw_at lw_m8 13 rfl) rfl
theorem q1823 : (Jvm.Cond.code ({ cls := "EarthMeshModel", name := "joinedTo", desc := "(I)I" } : Jvm.MethodName) prog_16_method_26_code (7 : Nat) (Option.some Jvm.ClassFile.FieldType.int)) ∈ lw_all := lw_g (lw_at lw_m8 14 rfl) rfl
theorem q1824 : (Jvm.Cond.methodLink "EarthMeshModel" (190 : Nat) ({ cls := "EarthMeshModel", name := "nodes", desc := "([I)I" } : Jvm.MethodName)) ∈ lw_all := lw_g (lw_at lw_m8 15 rfl) rfl
theorem q1825 : (Jvm.Cond.static ({ cls := "EarthMeshModel", name := "nodes", desc := "([I)I" } : Jvm.MethodName)) ∈ lw_all := lw_g (lw_at lw_m8 16 rfl) rfl
theorem q1826 : (Jvm.Cond.code ({ cls := "EarthMeshModel", name := "nodes", desc := "([I)I" } : Jvm.MethodName) prog_16_method_22_code (1 : Nat) (Option.some Jvm.ClassFile.FieldType.int)) ∈ lw_all := lw_g (lw_at lw_m8 17 rfl) rfl
theorem q1827 : (Jvm.Cond.methodLink "EarthMeshModel" (194 : Nat) ({ cls := "EarthMeshModel", name := "part", desc := "(II)I" } : Jvm.MethodName)) ∈ lw_all := lw_g (lw_at lw_m8 18 rfl) rfl
theorem q1828 : (Jvm.Cond.privateMethod ({ cls := "EarthMeshModel", name := "part", desc := "(II)I" } : Jvm.MethodName)) ∈ lw_tbl := lw_at lw_m8 19 rfl
theorem q1829 : (Jvm.Cond.instanceMethod ({ cls := "EarthMeshModel", name := "part", desc := "(II)I" } : Jvm.MethodName)) ∈ lw_all := lw_g (lw_at lw_m8 20 rfl) rfl
theorem q1830 : (Jvm.Cond.code ({ cls := "EarthMeshModel", name := "part", desc := "(II)I" } : Jvm.MethodName) prog_16_method_24_code (3 : Nat) (Option.some Jvm.ClassFile.FieldType.int)) ∈ lw_all := lw_g (lw_at lw_m8 21 rfl) rfl
theorem q1831 : (Jvm.Cond.methodLink "EarthMeshModel" (197 : Nat) ({ cls := "EarthMeshModel", name := "end", desc := "(II)I" } : Jvm.MethodName)) ∈ lw_all := lw_g (lw_at lw_m8 22 rfl) rfl
theorem q1832 : (Jvm.Cond.privateMethod ({ cls := "EarthMeshModel", name := "end", desc := "(II)I" } : Jvm.MethodName)) ∈ lw_tbl := lw_at lw_m8 23 rfl
theorem q1833 : (Jvm.Cond.instanceMethod ({ cls := "EarthMeshModel", name := "end", desc := "(II)I" } : Jvm.MethodName)) ∈ lw_all := lw_g (lw_at lw_m8 24 rfl) rfl
theorem q1834 : (Jvm.Cond.code ({ cls := "EarthMeshModel", name := "end", desc := "(II)I" } : Jvm.MethodName) prog_16_method_25_code (3 : Nat) (Option.some Jvm.ClassFile.FieldType.int)) ∈ lw_all := lw_g (lw_at lw_m8 25 rfl) rfl
theorem q1835 : (Jvm.Cond.methodLink "EarthMeshModel" (274 : Nat) ({ cls := "EarthMeshModel", name := "solvesNow", desc := "()Z" } : Jvm.MethodName)) ∈ lw_all := lw_g (lw_at lw_m8 26 rfl) rfl
theorem q1836 : (Jvm.Cond.privateMethod ({ cls := "EarthMeshModel", name := "solvesNow", desc := "()Z" } : Jvm.MethodName)) ∈ lw_tbl := lw_at lw_m8 27 rfl
theorem q1837 : (Jvm.Cond.instanceMethod ({ cls := "EarthMeshModel", name := "solvesNow", desc := "()Z" } : Jvm.MethodName)) ∈ lw_all := lw_g (lw_at lw_m8 28 rfl) rfl
theorem q1838 : (Jvm.Cond.code ({ cls := "EarthMeshModel", name := "solvesNow", desc := "()Z" } : Jvm.MethodName) prog_16_method_38_code (1 : Nat) (Option.some Jvm.ClassFile.FieldType.boolean)) ∈ lw_all := lw_g (lw_at lw_m8 29 rfl) rfl
theorem q1839 : (Jvm.Cond.methodLink "EarthMeshModel" (267 : Nat) ({ cls := "EarthMeshModel", name := "solves", desc := "(II)Z" } : Jvm.MethodName)) ∈ lw_all := lw_g (lw_at lw_m8 30 rfl) rfl
theorem q1840 : (Jvm.Cond.privateMethod ({ cls := "EarthMeshModel", name := "solves", desc := "(II)Z" } : Jvm.MethodName)) ∈ lw_tbl := lw_at lw_m8 31 rfl
theorem q1841 : (Jvm.Cond.instanceMethod ({ cls := "EarthMeshModel", name := "solves", desc := "(II)Z" } : Jvm.MethodName)) ∈ lw_all := lw_g (lw_at lw_m8 32 rfl) rfl
theorem q1842 : (Jvm.Cond.code ({ cls := "EarthMeshModel", name := "solves", desc := "(II)Z" } : Jvm.MethodName) prog_16_method_37_code (4 : Nat) (Option.some Jvm.ClassFile.FieldType.boolean)) ∈ lw_all := lw_g (lw_at lw_m8 33 rfl) rfl
theorem q1843 : (Jvm.Cond.methodLink "EarthMeshModel" (251 : Nat) ({ cls := "EarthMeshModel", name := "leaks", desc := "(I)Z" } : Jvm.MethodName)) ∈ lw_all := lw_g (lw_at lw_m8 34 rfl) rfl
theorem q1844 : (Jvm.Cond.privateMethod ({ cls := "EarthMeshModel", name := "leaks", desc := "(I)Z" } : Jvm.MethodName)) ∈ lw_tbl := lw_at lw_m8 35 rfl
theorem q1845 : (Jvm.Cond.instanceMethod ({ cls := "EarthMeshModel", name := "leaks", desc := "(I)Z" } : Jvm.MethodName)) ∈ lw_all := lw_g (lw_at lw_m8 36 rfl) rfl
theorem q1846 : (Jvm.Cond.code ({ cls := "EarthMeshModel", name := "leaks", desc := "(I)Z" } : Jvm.MethodName) prog_16_method_27_code (4 : Nat) (Option.some Jvm.ClassFile.FieldType.boolean)) ∈ lw_all := lw_g (lw_at lw_m8 37 rfl) rfl
theorem q1847 : (Jvm.Cond.methodLink "EarthMeshModel" (254 : Nat) ({ cls := "EarthMeshModel", name := "layRows", desc := "(II)V" } : Jvm.MethodName)) ∈ lw_all := lw_g (lw_at lw_m8 38 rfl) rfl
theorem q1848 : (Jvm.Cond.privateMethod ({ cls := "EarthMeshModel", name := "layRows", desc := "(II)V" } : Jvm.MethodName)) ∈ lw_tbl := lw_at lw_m8 39 rfl
theorem q1849 : (Jvm.Cond.instanceMethod ({ cls := "EarthMeshModel", name := "layRows", desc := "(II)V" } : Jvm.MethodName)) ∈ lw_all := lw_g (lw_at lw_m8 40 rfl) rfl
theorem q1850 : (Jvm.Cond.code ({ cls := "EarthMeshModel", name := "layRows", desc := "(II)V" } : Jvm.MethodName) prog_16_method_34_code (8 : Nat) (Option.none : Option Jvm.ClassFile.FieldType)) ∈ lw_all := lw_g (lw_at lw_m8 41 rfl) rfl
theorem q1851 : (Jvm.Cond.methodLink "EarthMeshModel" (226 : Nat) ({ cls := "EarthMeshModel", name := "gOf", desc := "(II)I" } : Jvm.MethodName)) ∈ lw_all := lw_g (lw_at lw_m8 42 rfl) rfl
theorem q1852 : (Jvm.Cond.privateMethod ({ cls := "EarthMeshModel", name := "gOf", desc := "(II)I" } : Jvm.MethodName)) ∈ lw_tbl := lw_at lw_m8 43 rfl
theorem q1853 : (Jvm.Cond.instanceMethod ({ cls := "EarthMeshModel", name := "gOf", desc := "(II)I" } : Jvm.MethodName)) ∈ lw_all := lw_g (lw_at lw_m8 44 rfl) rfl
theorem q1854 : (Jvm.Cond.code ({ cls := "EarthMeshModel", name := "gOf", desc := "(II)I" } : Jvm.MethodName) prog_16_method_33_code (5 : Nat) (Option.some Jvm.ClassFile.FieldType.int)) ∈ lw_all := lw_g (lw_at lw_m8 45 rfl) rfl
theorem q1855 : (Jvm.Cond.methodLink "EarthMeshModel" (220 : Nat) ({ cls := "java/lang/Math", name := "max", desc := "(II)I" } : Jvm.MethodName)) ∈ lw_all := lw_g (lw_at lw_m8 46 rfl) rfl
theorem q1856 : (Jvm.Cond.methodLink "EarthMeshModel" (229 : Nat) ({ cls := "EarthMeshModel", name := "lay", desc := "(IIJ)V" } : Jvm.MethodName)) ∈ lw_all := lw_g (lw_at lw_m8 47 rfl) rfl
theorem q1857 : (Jvm.Cond.privateMethod ({ cls := "EarthMeshModel", name := "lay", desc := "(IIJ)V" } : Jvm.MethodName)) ∈ lw_tbl := lw_at lw_m8 48 rfl
theorem q1858 : (Jvm.Cond.instanceMethod ({ cls := "EarthMeshModel", name := "lay", desc := "(IIJ)V" } : Jvm.MethodName)) ∈ lw_all := lw_g (lw_at lw_m8 49 rfl) rfl
theorem q1859 : (Jvm.Cond.code ({ cls := "EarthMeshModel", name := "lay", desc := "(IIJ)V" } : Jvm.MethodName) prog_16_method_32_code (5 : Nat) (Option.none : Option Jvm.ClassFile.FieldType)) ∈ lw_all := lw_g (lw_at lw_m8 50 rfl) rfl
theorem q1860 : (Jvm.Cond.methodLink "EarthMeshModel" (258 : Nat) ({ cls := "EarthMeshModel", name := "placeOf", desc := "(I)I" } : Jvm.MethodName)) ∈ lw_all := lw_g (lw_at lw_m8 51 rfl) rfl
theorem q1861 : (Jvm.Cond.privateMethod ({ cls := "EarthMeshModel", name := "placeOf", desc := "(I)I" } : Jvm.MethodName)) ∈ lw_tbl := lw_at lw_m8 52 rfl
theorem q1862 : (Jvm.Cond.instanceMethod ({ cls := "EarthMeshModel", name := "placeOf", desc := "(I)I" } : Jvm.MethodName)) ∈ lw_all := lw_g (lw_at lw_m8 53 rfl) rfl
theorem q1863 : (Jvm.Cond.code ({ cls := "EarthMeshModel", name := "placeOf", desc := "(I)I" } : Jvm.MethodName) prog_16_method_36_code (3 : Nat) (Option.some Jvm.ClassFile.FieldType.int)) ∈ lw_all := lw_g (lw_at lw_m8 54 rfl) rfl
theorem q1864 : (Jvm.Cond.constantLong "EarthMeshModel" (261 : Nat) (-1 : Int64)) ∈ lw_all := lw_g (lw_at lw_m8 55 rfl) rfl
theorem q1865 : (Jvm.Cond.methodLink "EarthMeshModel" (263 : Nat) ({ cls := "EarthMeshModel", name := "clears", desc := "(IZ)V" } : Jvm.MethodName)) ∈ lw_all := lw_g (lw_at lw_m8 56 rfl) rfl
theorem q1866 : (Jvm.Cond.privateMethod ({ cls := "EarthMeshModel", name := "clears", desc := "(IZ)V" } : Jvm.MethodName)) ∈ lw_tbl := lw_at lw_m8 57 rfl
theorem q1867 : (Jvm.Cond.instanceMethod ({ cls := "EarthMeshModel", name := "clears", desc := "(IZ)V" } : Jvm.MethodName)) ∈ lw_all := lw_g (lw_at lw_m8 58 rfl) rfl
theorem q1868 : (Jvm.Cond.code ({ cls := "EarthMeshModel", name := "clears", desc := "(IZ)V" } : Jvm.MethodName) prog_16_method_35_code (9 : Nat) (Option.none : Option Jvm.ClassFile.FieldType)) ∈ lw_all := lw_g (lw_at lw_m8 59 rfl) rfl
theorem q1869 : (Jvm.Cond.methodLink "EarthMeshModel" (237 : Nat) ({ cls := "EarthMeshModel", name := "cell", desc := "(II)J" } : Jvm.MethodName)) ∈ lw_all := lw_g (lw_at lw_m8 60 rfl) rfl
theorem q1870 : (Jvm.Cond.privateMethod ({ cls := "EarthMeshModel", name := "cell", desc := "(II)J" } : Jvm.MethodName)) ∈ lw_tbl := lw_at lw_m8 61 rfl
theorem q1871 : (Jvm.Cond.instanceMethod ({ cls := "EarthMeshModel", name := "cell", desc := "(II)J" } : Jvm.MethodName)) ∈ lw_all := lw_g (lw_at lw_m8 62 rfl) rfl
theorem q1872 : (Jvm.Cond.code ({ cls := "EarthMeshModel", name := "cell", desc := "(II)J" } : Jvm.MethodName) prog_16_method_31_code (3 : Nat) (Option.some Jvm.ClassFile.FieldType.long)) ∈ lw_all := lw_g (lw_at lw_m8 63 rfl) rfl
theorem q1873 : (Jvm.Cond.methodLink "EarthMeshModel" (241 : Nat) ({ cls := "EarthMeshModel", name := "exactly", desc := "(JJJJJ)J" } : Jvm.MethodName)) ∈ lw_all := lw_g (lw_at lw_m8 64 rfl) rfl
theorem q1874 : (Jvm.Cond.static ({ cls := "EarthMeshModel", name := "exactly", desc := "(JJJJJ)J" } : Jvm.MethodName)) ∈ lw_all := lw_g (lw_at lw_m8 65 rfl) rfl
theorem q1875 : (Jvm.Cond.code ({ cls := "EarthMeshModel", name := "exactly", desc := "(JJJJJ)J" } : Jvm.MethodName) prog_16_method_30_code (23 : Nat) (Option.some Jvm.ClassFile.FieldType.long)) ∈ lw_all := lw_g (lw_at lw_m8 66 rfl) rfl
theorem q1876 : (Jvm.Cond.constantLong "EarthMeshModel" (206 : Nat) (-9223372036854775808 : Int64)) ∈ lw_all := lw_g (lw_at lw_m8 67 rfl) rfl
theorem q1877 : (Jvm.Cond.methodLink "EarthMeshModel" (208 : Nat) ({ cls := "EarthMeshModel", name := "highOf", desc := "(JJ)J" } : Jvm.MethodName)) ∈ lw_all := lw_g (lw_at lw_m8 68 rfl) rfl
theorem q1878 : (Jvm.Cond.static ({ cls := "EarthMeshModel", name := "highOf", desc := "(JJ)J" } : Jvm.MethodName)) ∈ lw_all := lw_g (lw_at lw_m8 69 rfl) rfl
theorem q1879 : (Jvm.Cond.code ({ cls := "EarthMeshModel", name := "highOf", desc := "(JJ)J" } : Jvm.MethodName) prog_16_method_28_code (14 : Nat) (Option.some Jvm.ClassFile.FieldType.long)) ∈ lw_all := lw_g (lw_at lw_m8 70 rfl) rfl
theorem q1880 : (Jvm.Cond.constantLong "EarthMeshModel" (200 : Nat) (4294967295 : Int64)) ∈ lw_all := lw_g (lw_at lw_m8 71 rfl) rfl
theorem q1881 : (Jvm.Cond.methodLink "EarthMeshModel" (212 : Nat) ({ cls := "java/lang/Long", name := "numberOfTrailingZeros", desc := "(J)I" } : Jvm.MethodName)) ∈ lw_all := lw_g (lw_at lw_m8 72 rfl) rfl
theorem q1888 : (Jvm.Cond.methodLink "EarthMeshModel" (216 : Nat) ({ cls := "EarthMeshModel", name := "inverse", desc := "(J)J" } : Jvm.MethodName)) ∈ lw_all := lw_g (lw_at lw_m8 79 rfl) rfl
theorem q1889 : (Jvm.Cond.static ({ cls := "EarthMeshModel", name := "inverse", desc := "(J)J" } : Jvm.MethodName)) ∈ lw_all := lw_g (lw_at lw_m8 80 rfl) rfl
theorem q1890 : (Jvm.Cond.code ({ cls := "EarthMeshModel", name := "inverse", desc := "(J)J" } : Jvm.MethodName) prog_16_method_29_code (5 : Nat) (Option.some Jvm.ClassFile.FieldType.long)) ∈ lw_all := lw_g (lw_at lw_m8 81 rfl) rfl
theorem q1891 : (Jvm.Cond.constantLong "EarthMeshModel" (202 : Nat) (2 : Int64)) ∈ lw_all := lw_g (lw_at lw_m8 82 rfl) rfl
theorem q1892 : (Jvm.Cond.methodLink "EarthMeshModel" (278 : Nat) ({ cls := "EarthMeshModel", name := "isSafe", desc := "()Z" } : Jvm.MethodName)) ∈ lw_all := lw_g (lw_at lw_m8 83 rfl) rfl
theorem q1893 : (Jvm.Cond.privateMethod ({ cls := "EarthMeshModel", name := "isSafe", desc := "()Z" } : Jvm.MethodName)) ∈ lw_tbl := lw_at lw_m8 84 rfl
theorem q1894 : (Jvm.Cond.instanceMethod ({ cls := "EarthMeshModel", name := "isSafe", desc := "()Z" } : Jvm.MethodName)) ∈ lw_all := lw_g (lw_at lw_m8 85 rfl) rfl
theorem q1895 : (Jvm.Cond.code ({ cls := "EarthMeshModel", name := "isSafe", desc := "()Z" } : Jvm.MethodName) prog_16_method_75_code (4 : Nat) (Option.some Jvm.ClassFile.FieldType.boolean)) ∈ lw_all := lw_g (lw_at lw_m8 86 rfl) rfl
theorem q1896 : (Jvm.Cond.methodLink "EarthMeshModel" (344 : Nat) ({ cls := "EarthMeshModel", name := "tellsGround", desc := "()Z" } : Jvm.MethodName)) ∈ lw_all := lw_g (lw_at lw_m8 87 rfl) rfl
theorem q1897 : (Jvm.Cond.privateMethod ({ cls := "EarthMeshModel", name := "tellsGround", desc := "()Z" } : Jvm.MethodName)) ∈ lw_tbl := lw_at lw_m8 88 rfl
theorem q1898 : (Jvm.Cond.instanceMethod ({ cls := "EarthMeshModel", name := "tellsGround", desc := "()Z" } : Jvm.MethodName)) ∈ lw_all := lw_g (lw_at lw_m8 89 rfl) rfl
theorem q1899 : (Jvm.Cond.code ({ cls := "EarthMeshModel", name := "tellsGround", desc := "()Z" } : Jvm.MethodName) prog_16_method_52_code (2 : Nat) (Option.some Jvm.ClassFile.FieldType.boolean)) ∈ lw_all := lw_g (lw_at lw_m8 90 rfl) rfl
theorem q1900 : (Jvm.Cond.methodLink "EarthMeshModel" (332 : Nat) ({ cls := "EarthMeshModel", name := "points", desc := "()I" } : Jvm.MethodName)) ∈ lw_all := lw_g (lw_at lw_m8 91 rfl) rfl
theorem q1901 : (Jvm.Cond.privateMethod ({ cls := "EarthMeshModel", name := "points", desc := "()I" } : Jvm.MethodName)) ∈ lw_tbl := lw_at lw_m8 92 rfl
theorem q1902 : (Jvm.Cond.instanceMethod ({ cls := "EarthMeshModel", name := "points", desc := "()I" } : Jvm.MethodName)) ∈ lw_all := lw_g (lw_at lw_m8 93 rfl) rfl
theorem q1903 : (Jvm.Cond.code ({ cls := "EarthMeshModel", name := "points", desc := "()I" } : Jvm.MethodName) prog_16_method_50_code (1 : Nat) (Option.some Jvm.ClassFile.FieldType.int)) ∈ lw_all := lw_g (lw_at lw_m8 94 rfl) rfl
theorem q1904 : (Jvm.Cond.methodLink "EarthMeshModel" (325 : Nat) ({ cls := "EarthMeshModel", name := "pointsWide", desc := "()I" } : Jvm.MethodName)) ∈ lw_all := lw_g (lw_at lw_m8 95 rfl) rfl
theorem q1905 : (Jvm.Cond.privateMethod ({ cls := "EarthMeshModel", name := "pointsWide", desc := "()I" } : Jvm.MethodName)) ∈ lw_tbl := lw_at lw_m8 96 rfl
theorem q1906 : (Jvm.Cond.instanceMethod ({ cls := "EarthMeshModel", name := "pointsWide", desc := "()I" } : Jvm.MethodName)) ∈ lw_all := lw_g (lw_at lw_m8 97 rfl) rfl
theorem q1907 : (Jvm.Cond.code ({ cls := "EarthMeshModel", name := "pointsWide", desc := "()I" } : Jvm.MethodName) prog_16_method_49_code (1 : Nat) (Option.some Jvm.ClassFile.FieldType.int)) ∈ lw_all := lw_g (lw_at lw_m8 98 rfl) rfl
theorem q1908 : (Jvm.Cond.methodLink "EarthMeshModel" (335 : Nat) ({ cls := "EarthMeshModel", name := "tellGround", desc := "(I)V" } : Jvm.MethodName)) ∈ lw_all := lw_g (lw_at lw_m8 99 rfl) rfl
theorem q1909 : (Jvm.Cond.privateMethod ({ cls := "EarthMeshModel", name := "tellGround", desc := "(I)V" } : Jvm.MethodName)) ∈ lw_tbl := lw_at lw_m8 100 rfl
theorem q1910 : (Jvm.Cond.instanceMethod ({ cls := "EarthMeshModel", name := "tellGround", desc := "(I)V" } : Jvm.MethodName)) ∈ lw_all := lw_g (lw_at lw_m8 101 rfl) rfl
theorem q1911 : (Jvm.Cond.code ({ cls := "EarthMeshModel", name := "tellGround", desc := "(I)V" } : Jvm.MethodName) prog_16_method_51_code (13 : Nat) (Option.none : Option Jvm.ClassFile.FieldType)) ∈ lw_all := lw_g (lw_at lw_m8 102 rfl) rfl
theorem q1912 : (Jvm.Cond.methodLink "EarthMeshModel" (328 : Nat) ({ cls := "java/lang/Math", name := "max", desc := "(JJ)J" } : Jvm.MethodName)) ∈ lw_all := lw_g (lw_at lw_m8 103 rfl) rfl
theorem q1913 : (Jvm.Cond.constantLong "EarthMeshModel" (330 : Nat) (40 : Int64)) ∈ lw_all := lw_g (lw_at lw_m8 104 rfl) rfl
theorem q1914 : (Jvm.Cond.constantLong "EarthMeshModel" (356 : Nat) (4 : Int64)) ∈ lw_all := lw_g (lw_at lw_m8 105 rfl) rfl
theorem q1915 : (Jvm.Cond.methodLink "EarthMeshModel" (338 : Nat) ({ cls := "EarthMeshModel", name := "beside", desc := "(II)I" } : Jvm.MethodName)) ∈ lw_all := lw_g (lw_at lw_m8 106 rfl) rfl
theorem q1916 : (Jvm.Cond.privateMethod ({ cls := "EarthMeshModel", name := "beside", desc := "(II)I" } : Jvm.MethodName)) ∈ lw_tbl := lw_at lw_m8 107 rfl
theorem q1917 : (Jvm.Cond.instanceMethod ({ cls := "EarthMeshModel", name := "beside", desc := "(II)I" } : Jvm.MethodName)) ∈ lw_all := lw_g (lw_at lw_m8 108 rfl) rfl
theorem q1918 : (Jvm.Cond.code ({ cls := "EarthMeshModel", name := "beside", desc := "(II)I" } : Jvm.MethodName) prog_16_method_53_code (3 : Nat) (Option.some Jvm.ClassFile.FieldType.int)) ∈ lw_all := lw_g (lw_at lw_m8 109 rfl) rfl
theorem q1919 : (Jvm.Cond.methodLink "EarthMeshModel" (347 : Nat) ({ cls := "EarthMeshModel", name := "step", desc := "(II)J" } : Jvm.MethodName)) ∈ lw_all := lw_g (lw_at lw_m8 110 rfl) rfl
theorem q1920 : (Jvm.Cond.privateMethod ({ cls := "EarthMeshModel", name := "step", desc := "(II)J" } : Jvm.MethodName)) ∈ lw_tbl := lw_at lw_m8 111 rfl
theorem q1921 : (Jvm.Cond.instanceMethod ({ cls := "EarthMeshModel", name := "step", desc := "(II)J" } : Jvm.MethodName)) ∈ lw_all := lw_g (lw_at lw_m8 112 rfl) rfl
theorem q1922 : (Jvm.Cond.code ({ cls := "EarthMeshModel", name := "step", desc := "(II)J" } : Jvm.MethodName) prog_16_method_54_code (5 : Nat) (Option.some Jvm.ClassFile.FieldType.long)) ∈ lw_all := lw_g (lw_at lw_m8 113 rfl) rfl
theorem q1923 : (Jvm.Cond.methodLink "EarthMeshModel" (281 : Nat) ({ cls := "EarthMeshModel", name := "missed", desc := "()I" } : Jvm.MethodName)) ∈ lw_all := lw_g (lw_at lw_m8 114 rfl) rfl
theorem q1924 : (Jvm.Cond.privateMethod ({ cls := "EarthMeshModel", name := "missed", desc := "()I" } : Jvm.MethodName)) ∈ lw_tbl := lw_at lw_m8 115 rfl
theorem q1925 : (Jvm.Cond.instanceMethod ({ cls := "EarthMeshModel", name := "missed", desc := "()I" } : Jvm.MethodName)) ∈ lw_all := lw_g (lw_at lw_m8 116 rfl) rfl
theorem q1926 : (Jvm.Cond.code ({ cls := "EarthMeshModel", name := "missed", desc := "()I" } : Jvm.MethodName) prog_16_method_71_code (5 : Nat) (Option.some Jvm.ClassFile.FieldType.int)) ∈ lw_all := lw_g (lw_at lw_m8 117 rfl) rfl
theorem q1927 : (Jvm.Cond.methodLink "EarthMeshModel" (378 : Nat) ({ cls := "EarthMeshModel", name := "resists", desc := "()I" } : Jvm.MethodName)) ∈ lw_all := lw_g (lw_at lw_m8 118 rfl) rfl
theorem q1928 : (Jvm.Cond.privateMethod ({ cls := "EarthMeshModel", name := "resists", desc := "()I" } : Jvm.MethodName)) ∈ lw_tbl := lw_at lw_m8 119 rfl
theorem q1929 : (Jvm.Cond.instanceMethod ({ cls := "EarthMeshModel", name := "resists", desc := "()I" } : Jvm.MethodName)) ∈ lw_all := lw_g (lw_at lw_m8 120 rfl) rfl
theorem q1930 : (Jvm.Cond.code ({ cls := "EarthMeshModel", name := "resists", desc := "()I" } : Jvm.MethodName) prog_16_method_69_code (2 : Nat) (Option.some Jvm.ClassFile.FieldType.int)) ∈ lw_all := lw_g (lw_at lw_m8 121 rfl) rfl
theorem q1931 : (Jvm.Cond.methodLink "EarthMeshModel" (374 : Nat) ({ cls := "EarthMeshModel", name := "compare", desc := "(JJJJ)I" } : Jvm.MethodName)) ∈ lw_all := lw_g (lw_at lw_m8 122 rfl) rfl
theorem q1932 : (Jvm.Cond.static ({ cls := "EarthMeshModel", name := "compare", desc := "(JJJJ)I" } : Jvm.MethodName)) ∈ lw_all := lw_g (lw_at lw_m8 123 rfl) rfl
theorem q1933 : (Jvm.Cond.code ({ cls := "EarthMeshModel", name := "compare", desc := "(JJJJ)I" } : Jvm.MethodName) prog_16_method_41_code (23 : Nat) (Option.some Jvm.ClassFile.FieldType.int)) ∈ lw_all := lw_g (lw_at lw_m8 124 rfl) rfl
theorem q1934 : (Jvm.Cond.methodLink "EarthMeshModel" (381 : Nat) ({ cls := "EarthMeshModel", name := "keepsBest", desc := "()V" } : Jvm.MethodName)) ∈ lw_all := lw_g (lw_at lw_m8 125 rfl) rfl
theorem q1935 : (Jvm.Cond.privateMethod ({ cls := "EarthMeshModel", name := "keepsBest", desc := "()V" } : Jvm.MethodName)) ∈ lw_tbl := lw_at lw_m8 126 rfl
theorem q1936 : (Jvm.Cond.instanceMethod ({ cls := "EarthMeshModel", name := "keepsBest", desc := "()V" } : Jvm.MethodName)) ∈ lw_all := lw_g (lw_at lw_m8 127 rfl) rfl
theorem q1937 : (Jvm.Cond.code ({ cls := "EarthMeshModel", name := "keepsBest", desc := "()V" } : Jvm.MethodName) prog_16_method_70_code (2 : Nat) (Option.none : Option Jvm.ClassFile.FieldType)) ∈ lw_all := lw_g (lw_at lw_m8 128 rfl) rfl
theorem q1938 : (Jvm.Cond.methodLink "EarthMeshModel" (284 : Nat) ({ cls := "EarthMeshModel", name := "best", desc := "()I" } : Jvm.MethodName)) ∈ lw_all := lw_g (lw_at lw_m8 129 rfl) rfl
theorem q1939 : (Jvm.Cond.privateMethod ({ cls := "EarthMeshModel", name := "best", desc := "()I" } : Jvm.MethodName)) ∈ lw_tbl := lw_at lw_m8 130 rfl
theorem q1940 : (Jvm.Cond.instanceMethod ({ cls := "EarthMeshModel", name := "best", desc := "()I" } : Jvm.MethodName)) ∈ lw_all := lw_g (lw_at lw_m8 131 rfl) rfl
theorem q1941 : (Jvm.Cond.code ({ cls := "EarthMeshModel", name := "best", desc := "()I" } : Jvm.MethodName) prog_16_method_72_code (4 : Nat) (Option.some Jvm.ClassFile.FieldType.int)) ∈ lw_all := lw_g (lw_at lw_m8 132 rfl) rfl
theorem q1942 : (Jvm.Cond.methodLink "EarthMeshModel" (287 : Nat) ({ cls := "EarthMeshModel", name := "needed", desc := "(Z)I" } : Jvm.MethodName)) ∈ lw_all := lw_g (lw_at lw_m8 133 rfl) rfl
theorem q1943 : (Jvm.Cond.privateMethod ({ cls := "EarthMeshModel", name := "needed", desc := "(Z)I" } : Jvm.MethodName)) ∈ lw_tbl := lw_at lw_m8 134 rfl
theorem q1944 : (Jvm.Cond.instanceMethod ({ cls := "EarthMeshModel", name := "needed", desc := "(Z)I" } : Jvm.MethodName)) ∈ lw_all := lw_g (lw_at lw_m8 135 rfl) rfl
theorem q1945 : (Jvm.Cond.code ({ cls := "EarthMeshModel", name := "needed", desc := "(Z)I" } : Jvm.MethodName) prog_16_method_76_code (8 : Nat) (Option.some Jvm.ClassFile.FieldType.int)) ∈ lw_all := lw_g (lw_at lw_m8 136 rfl) rfl
theorem q1946 : (Jvm.Cond.methodLink "EarthMeshModel" (291 : Nat) ({ cls := "EarthMeshModel", name := "parts", desc := "(I)I" } : Jvm.MethodName)) ∈ lw_all := lw_g (lw_at lw_m8 137 rfl) rfl
theorem q1947 : (Jvm.Cond.privateMethod ({ cls := "EarthMeshModel", name := "parts", desc := "(I)I" } : Jvm.MethodName)) ∈ lw_tbl := lw_at lw_m8 138 rfl
theorem q1948 : (Jvm.Cond.instanceMethod ({ cls := "EarthMeshModel", name := "parts", desc := "(I)I" } : Jvm.MethodName)) ∈ lw_all := lw_g (lw_at lw_m8 139 rfl) rfl
theorem q1949 : (Jvm.Cond.code ({ cls := "EarthMeshModel", name := "parts", desc := "(I)I" } : Jvm.MethodName) prog_16_method_43_code (4 : Nat) (Option.some Jvm.ClassFile.FieldType.int)) ∈ lw_all := lw_g (lw_at lw_m8 140 rfl) rfl
theorem q1950 : (Jvm.Cond.methodLink "EarthMeshModel" (294 : Nat) ({ cls := "EarthMeshModel", name := "limit", desc := "()I" } : Jvm.MethodName)) ∈ lw_all := lw_g (lw_at lw_m8 141 rfl) rfl
theorem q1951 : (Jvm.Cond.privateMethod ({ cls := "EarthMeshModel", name := "limit", desc := "()I" } : Jvm.MethodName)) ∈ lw_tbl := lw_at lw_m8 142 rfl
theorem q1952 : (Jvm.Cond.instanceMethod ({ cls := "EarthMeshModel", name := "limit", desc := "()I" } : Jvm.MethodName)) ∈ lw_all := lw_g (lw_at lw_m8 143 rfl) rfl
theorem q1953 : (Jvm.Cond.code ({ cls := "EarthMeshModel", name := "limit", desc := "()I" } : Jvm.MethodName) prog_16_method_77_code (4 : Nat) (Option.some Jvm.ClassFile.FieldType.int)) ∈ lw_all := lw_g (lw_at lw_m8 144 rfl) rfl
theorem q1954 : (Jvm.Cond.methodLink "EarthMeshModel" (297 : Nat) ({ cls := "EarthMeshModel", name := "thinned", desc := "(Z)I" } : Jvm.MethodName)) ∈ lw_all := lw_g (lw_at lw_m8 145 rfl) rfl
theorem q1955 : (Jvm.Cond.privateMethod ({ cls := "EarthMeshModel", name := "thinned", desc := "(Z)I" } : Jvm.MethodName)) ∈ lw_tbl := lw_at lw_m8 146 rfl
theorem q1956 : (Jvm.Cond.instanceMethod ({ cls := "EarthMeshModel", name := "thinned", desc := "(Z)I" } : Jvm.MethodName)) ∈ lw_all := lw_g (lw_at lw_m8 147 rfl) rfl
theorem q1957 : (Jvm.Cond.code ({ cls := "EarthMeshModel", name := "thinned", desc := "(Z)I" } : Jvm.MethodName) prog_16_method_78_code (6 : Nat) (Option.some Jvm.ClassFile.FieldType.int)) ∈ lw_all := lw_g (lw_at lw_m8 148 rfl) rfl
theorem q1958 : (Jvm.Cond.methodLink "EarthMeshModel" (384 : Nat) ({ cls := "EarthMeshModel", name := "tries", desc := "()V" } : Jvm.MethodName)) ∈ lw_all := lw_g (lw_at lw_m8 149 rfl) rfl
theorem q1959 : (Jvm.Cond.privateMethod ({ cls := "EarthMeshModel", name := "tries", desc := "()V" } : Jvm.MethodName)) ∈ lw_tbl := lw_at lw_m8 150 rfl
theorem q1960 : (Jvm.Cond.instanceMethod ({ cls := "EarthMeshModel", name := "tries", desc := "()V" } : Jvm.MethodName)) ∈ lw_all := lw_g (lw_at lw_m8 151 rfl) rfl
theorem q1961 : (Jvm.Cond.code ({ cls := "EarthMeshModel", name := "tries", desc := "()V" } : Jvm.MethodName) prog_16_method_67_code (2 : Nat) (Option.none : Option Jvm.ClassFile.FieldType)) ∈ lw_all := lw_g (lw_at lw_m8 152 rfl) rfl
theorem q1962 : (Jvm.Cond.methodLink "EarthMeshModel" (390 : Nat) ({ cls := "EarthMeshModel", name := "laysBack", desc := "()V" } : Jvm.MethodName)) ∈ lw_all := lw_g (lw_at lw_m8 153 rfl) rfl
theorem q1963 : (Jvm.Cond.privateMethod ({ cls := "EarthMeshModel", name := "laysBack", desc := "()V" } : Jvm.MethodName)) ∈ lw_tbl := lw_at lw_m8 154 rfl
theorem q1964 : (Jvm.Cond.instanceMethod ({ cls := "EarthMeshModel", name := "laysBack", desc := "()V" } : Jvm.MethodName)) ∈ lw_all := lw_g (lw_at lw_m8 155 rfl) rfl
theorem q1965 : (Jvm.Cond.code ({ cls := "EarthMeshModel", name := "laysBack", desc := "()V" } : Jvm.MethodName) prog_16_method_68_code (2 : Nat) (Option.none : Option Jvm.ClassFile.FieldType)) ∈ lw_all := lw_g (lw_at lw_m8 156 rfl) rfl
theorem q1967 : (Jvm.Cond.instanceMethod ({ cls := "EarthMeshModel", name := "node", desc := "(II)I" } : Jvm.MethodName)) ∈ lw_all := lw_g (lw_at lw_m8 158 rfl) rfl
theorem q1968 : (Jvm.Cond.selects "EarthMeshModel" ({ cls := "EarthMeshModel", name := "node", desc := "(II)I" } : Jvm.MethodName) ({ cls := "EarthMeshModel", name := "node", desc := "(II)I" } : Jvm.MethodName)) ∈ lw_all := lw_g (lw_at lw_m8 159 rfl) rfl
theorem q1969 : (Jvm.Cond.code ({ cls := "EarthMeshModel", name := "node", desc := "(II)I" } : Jvm.MethodName) prog_16_method_45_code (3 : Nat) (Option.some Jvm.ClassFile.FieldType.int)) ∈ lw_all := lw_g (lw_at lw_m8 160 rfl) rfl
theorem q1970 : (Jvm.Cond.methodLink "EarthMeshModel" (304 : Nat) ({ cls := "EarthMeshModel", name := "isNode", desc := "(I)Z" } : Jvm.MethodName)) ∈ lw_all := lw_g (lw_at lw_m8 161 rfl) rfl
theorem q1971 : (Jvm.Cond.privateMethod ({ cls := "EarthMeshModel", name := "isNode", desc := "(I)Z" } : Jvm.MethodName)) ∈ lw_tbl := lw_at lw_m8 162 rfl
theorem q1972 : (Jvm.Cond.instanceMethod ({ cls := "EarthMeshModel", name := "isNode", desc := "(I)Z" } : Jvm.MethodName)) ∈ lw_all := lw_g (lw_at lw_m8 163 rfl) rfl
theorem q1973 : (Jvm.Cond.code ({ cls := "EarthMeshModel", name := "isNode", desc := "(I)Z" } : Jvm.MethodName) prog_16_method_44_code (2 : Nat) (Option.some Jvm.ClassFile.FieldType.boolean)) ∈ lw_all := lw_g (lw_at lw_m8 164 rfl) rfl
theorem q1974 : (Jvm.Cond.methodLink "EarthMeshModel" (300 : Nat) ({ cls := "EarthMeshModel", name := "isIn", desc := "(III)Z" } : Jvm.MethodName)) ∈ lw_all := lw_g (lw_at lw_m8 165 rfl) rfl
theorem q1975 : (Jvm.Cond.static ({ cls := "EarthMeshModel", name := "isIn", desc := "(III)Z" } : Jvm.MethodName)) ∈ lw_all := lw_g (lw_at lw_m8 166 rfl) rfl
theorem q1976 : (Jvm.Cond.code ({ cls := "EarthMeshModel", name := "isIn", desc := "(III)Z" } : Jvm.MethodName) prog_16_method_4_code (3 : Nat) (Option.some Jvm.ClassFile.FieldType.boolean)) ∈ lw_all := lw_g (lw_at lw_m8 167 rfl) rfl
theorem q1978 : (Jvm.Cond.instanceMethod ({ cls := "EarthMeshModel", name := "at", desc := "(IIZ)J" } : Jvm.MethodName)) ∈ lw_all := lw_g (lw_at lw_m8 169 rfl) rfl
theorem q1979 : (Jvm.Cond.selects "EarthMeshModel" ({ cls := "EarthMeshModel", name := "at", desc := "(IIZ)J" } : Jvm.MethodName) ({ cls := "EarthMeshModel", name := "at", desc := "(IIZ)J" } : Jvm.MethodName)) ∈ lw_all := lw_g (lw_at lw_m8 170 rfl) rfl
theorem q1980 : (Jvm.Cond.code ({ cls := "EarthMeshModel", name := "at", desc := "(IIZ)J" } : Jvm.MethodName) prog_16_method_46_code (6 : Nat) (Option.some Jvm.ClassFile.FieldType.long)) ∈ lw_all := lw_g (lw_at lw_m8 171 rfl) rfl
theorem q1981 : (Jvm.Cond.methodLink "EarthMeshModel" (307 : Nat) ({ cls := "EarthMeshModel", name := "side", desc := "(JJZ)J" } : Jvm.MethodName)) ∈ lw_all := lw_g (lw_at lw_m8 172 rfl) rfl
theorem q1982 : (Jvm.Cond.static ({ cls := "EarthMeshModel", name := "side", desc := "(JJZ)J" } : Jvm.MethodName)) ∈ lw_all := lw_g (lw_at lw_m8 173 rfl) rfl
theorem q1983 : (Jvm.Cond.code ({ cls := "EarthMeshModel", name := "side", desc := "(JJZ)J" } : Jvm.MethodName) prog_16_method_40_code (7 : Nat) (Option.some Jvm.ClassFile.FieldType.long)) ∈ lw_all := lw_g (lw_at lw_m8 174 rfl) rfl
theorem q1984 : (Jvm.Cond.methodLink "EarthMeshModel" (271 : Nat) ({ cls := "EarthMeshModel", name := "common", desc := "(JJ)J" } : Jvm.MethodName)) ∈ lw_all := lw_g (lw_at lw_m8 175 rfl) rfl
theorem q1985 : (Jvm.Cond.static ({ cls := "EarthMeshModel", name := "common", desc := "(JJ)J" } : Jvm.MethodName)) ∈ lw_all := lw_g (lw_at lw_m8 176 rfl) rfl
theorem q1986 : (Jvm.Cond.code ({ cls := "EarthMeshModel", name := "common", desc := "(JJ)J" } : Jvm.MethodName) prog_16_method_39_code (10 : Nat) (Option.some Jvm.ClassFile.FieldType.long)) ∈ lw_all := lw_g (lw_at lw_m8 177 rfl) rfl
theorem q1988 : (Jvm.Cond.instanceMethod ({ cls := "EarthMeshModel", name := "bits", desc := "(IZ)J" } : Jvm.MethodName)) ∈ lw_all := lw_g (lw_at lw_m8 179 rfl) rfl
theorem q1989 : (Jvm.Cond.selects "EarthMeshModel" ({ cls := "EarthMeshModel", name := "bits", desc := "(IZ)J" } : Jvm.MethodName) ({ cls := "EarthMeshModel", name := "bits", desc := "(IZ)J" } : Jvm.MethodName)) ∈ lw_all := lw_g (lw_at lw_m8 180 rfl) rfl
theorem q1990 : (Jvm.Cond.code ({ cls := "EarthMeshModel", name := "bits", desc := "(IZ)J" } : Jvm.MethodName) prog_16_method_47_code (5 : Nat) (Option.some Jvm.ClassFile.FieldType.long)) ∈ lw_all := lw_g (lw_at lw_m8 181 rfl) rfl
theorem q1991 : (Jvm.Cond.methodLink "EarthMeshModel" (311 : Nat) ({ cls := "java/lang/Double", name := "doubleToLongBits", desc := "(D)J" } : Jvm.MethodName)) ∈ lw_all := lw_g (lw_at lw_m8 182 rfl) rfl
theorem q1992 : (Jvm.Cond.methodLink "EarthMeshModel" (317 : Nat) ({ cls := "java/lang/Float", name := "floatToIntBits", desc := "(F)I" } : Jvm.MethodName)) ∈ lw_all := lw_g (lw_at lw_m8 183 rfl) rfl
theorem q1994 : (Jvm.Cond.instanceMethod ({ cls := "EarthMeshModel", name := "share", desc := "(I)I" } : Jvm.MethodName)) ∈ lw_all := lw_g (lw_at lw_m8 185 rfl) rfl
theorem q1995 : (Jvm.Cond.selects "EarthMeshModel" ({ cls := "EarthMeshModel", name := "share", desc := "(I)I" } : Jvm.MethodName) ({ cls := "EarthMeshModel", name := "share", desc := "(I)I" } : Jvm.MethodName)) ∈ lw_all := lw_g (lw_at lw_m8 186 rfl) rfl
theorem q1996 : (Jvm.Cond.code ({ cls := "EarthMeshModel", name := "share", desc := "(I)I" } : Jvm.MethodName) prog_16_method_48_code (6 : Nat) (Option.some Jvm.ClassFile.FieldType.int)) ∈ lw_all := lw_g (lw_at lw_m8 187 rfl) rfl
theorem q1997 : (Jvm.Cond.constantLong "EarthMeshModel" (323 : Nat) (100 : Int64)) ∈ lw_all := lw_g (lw_at lw_m8 188 rfl) rfl
theorem q1999 : (Jvm.Cond.instanceMethod ({ cls := "EarthMeshModel", name := "ground", desc := "(IIZ)J" } : Jvm.MethodName)) ∈ lw_all := lw_g (lw_at lw_m8 190 rfl) rfl
theorem q2000 : (Jvm.Cond.selects "EarthMeshModel" ({ cls := "EarthMeshModel", name := "ground", desc := "(IIZ)J" } : Jvm.MethodName) ({ cls := "EarthMeshModel", name := "ground", desc := "(IIZ)J" } : Jvm.MethodName)) ∈ lw_all := lw_g (lw_at lw_m8 191 rfl) rfl
theorem q2001 : (Jvm.Cond.code ({ cls := "EarthMeshModel", name := "ground", desc := "(IIZ)J" } : Jvm.MethodName) prog_16_method_56_code (6 : Nat) (Option.some Jvm.ClassFile.FieldType.long)) ∈ lw_all := lw_g (lw_at lw_m8 192 rfl) rfl
theorem q2002 : (Jvm.Cond.methodLink "EarthMeshModel" (341 : Nat) ({ cls := "EarthMeshModel", name := "isPoint", desc := "(I)Z" } : Jvm.MethodName)) ∈ lw_all := lw_g (lw_at lw_m8 193 rfl) rfl
theorem q2003 : (Jvm.Cond.privateMethod ({ cls := "EarthMeshModel", name := "isPoint", desc := "(I)Z" } : Jvm.MethodName)) ∈ lw_tbl := lw_at lw_m8 194 rfl
theorem q2004 : (Jvm.Cond.instanceMethod ({ cls := "EarthMeshModel", name := "isPoint", desc := "(I)Z" } : Jvm.MethodName)) ∈ lw_all := lw_g (lw_at lw_m8 195 rfl) rfl
theorem q2005 : (Jvm.Cond.code ({ cls := "EarthMeshModel", name := "isPoint", desc := "(I)Z" } : Jvm.MethodName) prog_16_method_55_code (2 : Nat) (Option.some Jvm.ClassFile.FieldType.boolean)) ∈ lw_all := lw_g (lw_at lw_m8 196 rfl) rfl
theorem q2007 : (Jvm.Cond.instanceMethod ({ cls := "EarthMeshModel", name := "worst", desc := "(I)I" } : Jvm.MethodName)) ∈ lw_all := lw_g (lw_at lw_m8 198 rfl) rfl
theorem q2008 : (Jvm.Cond.selects "EarthMeshModel" ({ cls := "EarthMeshModel", name := "worst", desc := "(I)I" } : Jvm.MethodName) ({ cls := "EarthMeshModel", name := "worst", desc := "(I)I" } : Jvm.MethodName)) ∈ lw_all := lw_g (lw_at lw_m8 199 rfl) rfl
theorem q2009 : (Jvm.Cond.code ({ cls := "EarthMeshModel", name := "worst", desc := "(I)I" } : Jvm.MethodName) prog_16_method_59_code (2 : Nat) (Option.some Jvm.ClassFile.FieldType.int)) ∈ lw_all := lw_g (lw_at lw_m8 200 rfl) rfl
theorem q2010 : (Jvm.Cond.methodLink "EarthMeshModel" (350 : Nat) ({ cls := "EarthMeshModel", name := "worstStep", desc := "()I" } : Jvm.MethodName)) ∈ lw_all := lw_g (lw_at lw_m8 201 rfl) rfl
theorem q2011 : (Jvm.Cond.privateMethod ({ cls := "EarthMeshModel", name := "worstStep", desc := "()I" } : Jvm.MethodName)) ∈ lw_tbl := lw_at lw_m8 202 rfl
theorem q2012 : (Jvm.Cond.instanceMethod ({ cls := "EarthMeshModel", name := "worstStep", desc := "()I" } : Jvm.MethodName)) ∈ lw_all := lw_g (lw_at lw_m8 203 rfl) rfl
theorem q2013 : (Jvm.Cond.code ({ cls := "EarthMeshModel", name := "worstStep", desc := "()I" } : Jvm.MethodName) prog_16_method_57_code (6 : Nat) (Option.some Jvm.ClassFile.FieldType.int)) ∈ lw_all := lw_g (lw_at lw_m8 204 rfl) rfl
theorem q2014 : (Jvm.Cond.methodLink "EarthMeshModel" (353 : Nat) ({ cls := "EarthMeshModel", name := "worstTouch", desc := "()I" } : Jvm.MethodName)) ∈ lw_all := lw_g (lw_at lw_m8 205 rfl) rfl
theorem q2015 : (Jvm.Cond.privateMethod ({ cls := "EarthMeshModel", name := "worstTouch", desc := "()I" } : Jvm.MethodName)) ∈ lw_tbl := lw_at lw_m8 206 rfl
theorem q2016 : (Jvm.Cond.instanceMethod ({ cls := "EarthMeshModel", name := "worstTouch", desc := "()I" } : Jvm.MethodName)) ∈ lw_all := lw_g (lw_at lw_m8 207 rfl) rfl
theorem q2017 : (Jvm.Cond.code ({ cls := "EarthMeshModel", name := "worstTouch", desc := "()I" } : Jvm.MethodName) prog_16_method_58_code (3 : Nat) (Option.some Jvm.ClassFile.FieldType.int)) ∈ lw_all := lw_g (lw_at lw_m8 208 rfl) rfl
theorem q2019 : (Jvm.Cond.instanceMethod ({ cls := "EarthMeshModel", name := "box", desc := "(II)I" } : Jvm.MethodName)) ∈ lw_all := lw_g (lw_at lw_m8 210 rfl) rfl
theorem q2020 : (Jvm.Cond.selects "EarthMeshModel" ({ cls := "EarthMeshModel", name := "box", desc := "(II)I" } : Jvm.MethodName) ({ cls := "EarthMeshModel", name := "box", desc := "(II)I" } : Jvm.MethodName)) ∈ lw_all := lw_g (lw_at lw_m8 211 rfl) rfl
theorem q2021 : (Jvm.Cond.code ({ cls := "EarthMeshModel", name := "box", desc := "(II)I" } : Jvm.MethodName) prog_16_method_60_code (9 : Nat) (Option.some Jvm.ClassFile.FieldType.int)) ∈ lw_all := lw_g (lw_at lw_m8 212 rfl) rfl
theorem q2023 : (Jvm.Cond.instanceMethod ({ cls := "EarthMeshModel", name := "reach", desc := "(I)I" } : Jvm.MethodName)) ∈ lw_all := lw_g (lw_at lw_m8 214 rfl) rfl
theorem q2024 : (Jvm.Cond.selects "EarthMeshModel" ({ cls := "EarthMeshModel", name := "reach", desc := "(I)I" } : Jvm.MethodName) ({ cls := "EarthMeshModel", name := "reach", desc := "(I)I" } : Jvm.MethodName)) ∈ lw_all := lw_g (lw_at lw_m8 215 rfl) rfl
theorem q2025 : (Jvm.Cond.code ({ cls := "EarthMeshModel", name := "reach", desc := "(I)I" } : Jvm.MethodName) prog_16_method_61_code (4 : Nat) (Option.some Jvm.ClassFile.FieldType.int)) ∈ lw_all := lw_g (lw_at lw_m8 216 rfl) rfl
theorem q2027 : (Jvm.Cond.instanceMethod ({ cls := "EarthMeshModel", name := "walk", desc := "(IIZ)J" } : Jvm.MethodName)) ∈ lw_all := lw_g (lw_at lw_m8 218 rfl) rfl
theorem q2028 : (Jvm.Cond.selects "EarthMeshModel" ({ cls := "EarthMeshModel", name := "walk", desc := "(IIZ)J" } : Jvm.MethodName) ({ cls := "EarthMeshModel", name := "walk", desc := "(IIZ)J" } : Jvm.MethodName)) ∈ lw_all := lw_g (lw_at lw_m8 219 rfl) rfl
theorem q2029 : (Jvm.Cond.code ({ cls := "EarthMeshModel", name := "walk", desc := "(IIZ)J" } : Jvm.MethodName) prog_16_method_65_code (5 : Nat) (Option.some Jvm.ClassFile.FieldType.long)) ∈ lw_all := lw_g (lw_at lw_m8 220 rfl) rfl
theorem q2030 : (Jvm.Cond.methodLink "EarthMeshModel" (362 : Nat) ({ cls := "EarthMeshModel", name := "walkRefusal", desc := "(II)I" } : Jvm.MethodName)) ∈ lw_all := lw_g (lw_at lw_m8 221 rfl) rfl
theorem q2031 : (Jvm.Cond.privateMethod ({ cls := "EarthMeshModel", name := "walkRefusal", desc := "(II)I" } : Jvm.MethodName)) ∈ lw_tbl := lw_at lw_m8 222 rfl
theorem q2032 : (Jvm.Cond.instanceMethod ({ cls := "EarthMeshModel", name := "walkRefusal", desc := "(II)I" } : Jvm.MethodName)) ∈ lw_all := lw_g (lw_at lw_m8 223 rfl) rfl
theorem q2033 : (Jvm.Cond.code ({ cls := "EarthMeshModel", name := "walkRefusal", desc := "(II)I" } : Jvm.MethodName) prog_16_method_64_code (3 : Nat) (Option.some Jvm.ClassFile.FieldType.int)) ∈ lw_all := lw_g (lw_at lw_m8 224 rfl) rfl
theorem q2034 : (Jvm.Cond.methodLink "EarthMeshModel" (365 : Nat) ({ cls := "EarthMeshModel", name := "tollTo", desc := "(II)J" } : Jvm.MethodName)) ∈ lw_all := lw_g (lw_at lw_m8 225 rfl) rfl
theorem q2035 : (Jvm.Cond.privateMethod ({ cls := "EarthMeshModel", name := "tollTo", desc := "(II)J" } : Jvm.MethodName)) ∈ lw_tbl := lw_at lw_m8 226 rfl
theorem q2036 : (Jvm.Cond.instanceMethod ({ cls := "EarthMeshModel", name := "tollTo", desc := "(II)J" } : Jvm.MethodName)) ∈ lw_all := lw_g (lw_at lw_m8 227 rfl) rfl
theorem q2037 : (Jvm.Cond.code ({ cls := "EarthMeshModel", name := "tollTo", desc := "(II)J" } : Jvm.MethodName) prog_16_method_63_code (7 : Nat) (Option.some Jvm.ClassFile.FieldType.long)) ∈ lw_all := lw_g (lw_at lw_m8 228 rfl) rfl
theorem q2038 : (Jvm.Cond.methodLink "EarthMeshModel" (358 : Nat) ({ cls := "EarthMeshModel", name := "lowers", desc := "(IIJ)Z" } : Jvm.MethodName)) ∈ lw_all := lw_g (lw_at lw_m8 229 rfl) rfl
theorem q2039 : (Jvm.Cond.privateMethod ({ cls := "EarthMeshModel", name := "lowers", desc := "(IIJ)Z" } : Jvm.MethodName)) ∈ lw_tbl := lw_at lw_m8 230 rfl
theorem q2040 : (Jvm.Cond.instanceMethod ({ cls := "EarthMeshModel", name := "lowers", desc := "(IIJ)Z" } : Jvm.MethodName)) ∈ lw_all := lw_g (lw_at lw_m8 231 rfl) rfl
theorem q2041 : (Jvm.Cond.code ({ cls := "EarthMeshModel", name := "lowers", desc := "(IIJ)Z" } : Jvm.MethodName) prog_16_method_62_code (7 : Nat) (Option.some Jvm.ClassFile.FieldType.boolean)) ∈ lw_all := lw_g (lw_at lw_m8 232 rfl) rfl
theorem q2043 : (Jvm.Cond.instanceMethod ({ cls := "EarthMeshModel", name := "walked", desc := "(II)I" } : Jvm.MethodName)) ∈ lw_all := lw_g (lw_at lw_m8 234 rfl) rfl
theorem q2044 : (Jvm.Cond.selects "EarthMeshModel" ({ cls := "EarthMeshModel", name := "walked", desc := "(II)I" } : Jvm.MethodName) ({ cls := "EarthMeshModel", name := "walked", desc := "(II)I" } : Jvm.MethodName)) ∈ lw_all := lw_g (lw_at lw_m8 235 rfl) rfl
theorem q2045 : (Jvm.Cond.code ({ cls := "EarthMeshModel", name := "walked", desc := "(II)I" } : Jvm.MethodName) prog_16_method_66_code (10 : Nat) (Option.some Jvm.ClassFile.FieldType.int)) ∈ lw_all := lw_g (lw_at lw_m8 236 rfl) rfl
theorem q2047 : (Jvm.Cond.instanceMethod ({ cls := "EarthMeshModel", name := "cascade", desc := "(I)I" } : Jvm.MethodName)) ∈ lw_all := lw_g (lw_at lw_m8 238 rfl) rfl
theorem q2048 : (Jvm.Cond.selects "EarthMeshModel" ({ cls := "EarthMeshModel", name := "cascade", desc := "(I)I" } : Jvm.MethodName) ({ cls := "EarthMeshModel", name := "cascade", desc := "(I)I" } : Jvm.MethodName)) ∈ lw_all := lw_g (lw_at lw_m8 239 rfl) rfl
theorem q2049 : (Jvm.Cond.code ({ cls := "EarthMeshModel", name := "cascade", desc := "(I)I" } : Jvm.MethodName) prog_16_method_74_code (4 : Nat) (Option.some Jvm.ClassFile.FieldType.int)) ∈ lw_all := lw_g (lw_at lw_m9 0 rfl) rfl
theorem q2050 : (Jvm.Cond.methodLink "EarthMeshModel" (387 : Nat) ({ cls := "EarthMeshModel", name := "melt", desc := "()Z" } : Jvm.MethodName)) ∈ lw_all := lw_g (lw_at lw_m9 1 rfl) rfl
theorem q2051 : (Jvm.Cond.privateMethod ({ cls := "EarthMeshModel", name := "melt", desc := "()Z" } : Jvm.MethodName)) ∈ lw_tbl := lw_at lw_m9 2 rfl
theorem q2052 : (Jvm.Cond.instanceMethod ({ cls := "EarthMeshModel", name := "melt", desc := "()Z" } : Jvm.MethodName)) ∈ lw_all := lw_g (lw_at lw_m9 3 rfl) rfl
theorem q2053 : (Jvm.Cond.code ({ cls := "EarthMeshModel", name := "melt", desc := "()Z" } : Jvm.MethodName) prog_16_method_73_code (7 : Nat) (Option.some Jvm.ClassFile.FieldType.boolean)) ∈ lw_all := lw_g (lw_at lw_m9 4 rfl) rfl
theorem q2055 : (Jvm.Cond.instanceMethod ({ cls := "EarthMeshModel", name := "sweep", desc := "(ZI)J" } : Jvm.MethodName)) ∈ lw_all := lw_g (lw_at lw_m9 6 rfl) rfl
theorem q2056 : (Jvm.Cond.selects "EarthMeshModel" ({ cls := "EarthMeshModel", name := "sweep", desc := "(ZI)J" } : Jvm.MethodName) ({ cls := "EarthMeshModel", name := "sweep", desc := "(ZI)J" } : Jvm.MethodName)) ∈ lw_all := lw_g (lw_at lw_m9 7 rfl) rfl
theorem q2057 : (Jvm.Cond.code ({ cls := "EarthMeshModel", name := "sweep", desc := "(ZI)J" } : Jvm.MethodName) prog_16_method_80_code (12 : Nat) (Option.some Jvm.ClassFile.FieldType.long)) ∈ lw_all := lw_g (lw_at lw_m9 8 rfl) rfl
theorem q2058 : (Jvm.Cond.methodLink "EarthMeshModel" (393 : Nat) ({ cls := "EarthMeshModel", name := "worstNow", desc := "(Z)J" } : Jvm.MethodName)) ∈ lw_all := lw_g (lw_at lw_m9 9 rfl) rfl
theorem q2059 : (Jvm.Cond.privateMethod ({ cls := "EarthMeshModel", name := "worstNow", desc := "(Z)J" } : Jvm.MethodName)) ∈ lw_tbl := lw_at lw_m9 10 rfl
theorem q2060 : (Jvm.Cond.instanceMethod ({ cls := "EarthMeshModel", name := "worstNow", desc := "(Z)J" } : Jvm.MethodName)) ∈ lw_all := lw_g (lw_at lw_m9 11 rfl) rfl
theorem q2061 : (Jvm.Cond.code ({ cls := "EarthMeshModel", name := "worstNow", desc := "(Z)J" } : Jvm.MethodName) prog_16_method_79_code (6 : Nat) (Option.some Jvm.ClassFile.FieldType.long)) ∈ lw_all := lw_g (lw_at lw_m9 12 rfl) rfl
theorem q2063 : (Jvm.Cond.instanceMethod ({ cls := "EarthMeshModel", name := "free", desc := "(I)I" } : Jvm.MethodName)) ∈ lw_all := lw_g (lw_at lw_m9 14 rfl) rfl
theorem q2064 : (Jvm.Cond.selects "EarthMeshModel" ({ cls := "EarthMeshModel", name := "free", desc := "(I)I" } : Jvm.MethodName) ({ cls := "EarthMeshModel", name := "free", desc := "(I)I" } : Jvm.MethodName)) ∈ lw_all := lw_g (lw_at lw_m9 15 rfl) rfl
theorem q2065 : (Jvm.Cond.code ({ cls := "EarthMeshModel", name := "free", desc := "(I)I" } : Jvm.MethodName) prog_16_method_82_code (6 : Nat) (Option.some Jvm.ClassFile.FieldType.int)) ∈ lw_all := lw_g (lw_at lw_m9 16 rfl) rfl
theorem q2066 : (Jvm.Cond.methodLink "EarthMeshModel" (397 : Nat) ({ cls := "EarthMeshModel", name := "isRim", desc := "(I)Z" } : Jvm.MethodName)) ∈ lw_all := lw_g (lw_at lw_m9 17 rfl) rfl
theorem q2067 : (Jvm.Cond.privateMethod ({ cls := "EarthMeshModel", name := "isRim", desc := "(I)Z" } : Jvm.MethodName)) ∈ lw_tbl := lw_at lw_m9 18 rfl
theorem q2068 : (Jvm.Cond.instanceMethod ({ cls := "EarthMeshModel", name := "isRim", desc := "(I)Z" } : Jvm.MethodName)) ∈ lw_all := lw_g (lw_at lw_m9 19 rfl) rfl
theorem q2069 : (Jvm.Cond.code ({ cls := "EarthMeshModel", name := "isRim", desc := "(I)Z" } : Jvm.MethodName) prog_16_method_81_code (2 : Nat) (Option.some Jvm.ClassFile.FieldType.boolean)) ∈ lw_all := lw_g (lw_at lw_m9 20 rfl) rfl
theorem q2071 : (Jvm.Cond.instanceMethod ({ cls := "EarthMeshModel", name := "cheapest", desc := "(I)I" } : Jvm.MethodName)) ∈ lw_all := lw_g (lw_at lw_m9 22 rfl) rfl
theorem q2072 : (Jvm.Cond.selects "EarthMeshModel" ({ cls := "EarthMeshModel", name := "cheapest", desc := "(I)I" } : Jvm.MethodName) ({ cls := "EarthMeshModel", name := "cheapest", desc := "(I)I" } : Jvm.MethodName)) ∈ lw_all := lw_g (lw_at lw_m9 23 rfl) rfl
theorem q2073 : (Jvm.Cond.code ({ cls := "EarthMeshModel", name := "cheapest", desc := "(I)I" } : Jvm.MethodName) prog_16_method_88_code (2 : Nat) (Option.some Jvm.ClassFile.FieldType.int)) ∈ lw_all := lw_g (lw_at lw_m9 24 rfl) rfl
theorem q2074 : (Jvm.Cond.methodLink "EarthMeshModel" (424 : Nat) ({ cls := "EarthMeshModel", name := "tellCheapest", desc := "()V" } : Jvm.MethodName)) ∈ lw_all := lw_g (lw_at lw_m9 25 rfl) rfl
theorem q2075 : (Jvm.Cond.privateMethod ({ cls := "EarthMeshModel", name := "tellCheapest", desc := "()V" } : Jvm.MethodName)) ∈ lw_tbl := lw_at lw_m9 26 rfl
theorem q2076 : (Jvm.Cond.instanceMethod ({ cls := "EarthMeshModel", name := "tellCheapest", desc := "()V" } : Jvm.MethodName)) ∈ lw_all := lw_g (lw_at lw_m9 27 rfl) rfl
theorem q2077 : (Jvm.Cond.code ({ cls := "EarthMeshModel", name := "tellCheapest", desc := "()V" } : Jvm.MethodName) prog_16_method_87_code (3 : Nat) (Option.none : Option Jvm.ClassFile.FieldType)) ∈ lw_all := lw_g (lw_at lw_m9 28 rfl) rfl
theorem q2078 : (Jvm.Cond.methodLink "EarthMeshModel" (414 : Nat) ({ cls := "EarthMeshModel", name := "weighs", desc := "(IIII)V" } : Jvm.MethodName)) ∈ lw_all := lw_g (lw_at lw_m9 29 rfl) rfl
theorem q2079 : (Jvm.Cond.privateMethod ({ cls := "EarthMeshModel", name := "weighs", desc := "(IIII)V" } : Jvm.MethodName)) ∈ lw_tbl := lw_at lw_m9 30 rfl
theorem q2080 : (Jvm.Cond.instanceMethod ({ cls := "EarthMeshModel", name := "weighs", desc := "(IIII)V" } : Jvm.MethodName)) ∈ lw_all := lw_g (lw_at lw_m9 31 rfl) rfl
theorem q2081 : (Jvm.Cond.code ({ cls := "EarthMeshModel", name := "weighs", desc := "(IIII)V" } : Jvm.MethodName) prog_16_method_86_code (6 : Nat) (Option.none : Option Jvm.ClassFile.FieldType)) ∈ lw_all := lw_g (lw_at lw_m9 32 rfl) rfl
theorem q2082 : (Jvm.Cond.methodLink "EarthMeshModel" (405 : Nat) ({ cls := "EarthMeshModel", name := "numberOf", desc := "(I)I" } : Jvm.MethodName)) ∈ lw_all := lw_g (lw_at lw_m9 33 rfl) rfl
theorem q2083 : (Jvm.Cond.static ({ cls := "EarthMeshModel", name := "numberOf", desc := "(I)I" } : Jvm.MethodName)) ∈ lw_all := lw_g (lw_at lw_m9 34 rfl) rfl
theorem q2084 : (Jvm.Cond.code ({ cls := "EarthMeshModel", name := "numberOf", desc := "(I)I" } : Jvm.MethodName) prog_16_method_85_code (1 : Nat) (Option.some Jvm.ClassFile.FieldType.int)) ∈ lw_all := lw_g (lw_at lw_m9 35 rfl) rfl
theorem q2085 : (Jvm.Cond.methodLink "EarthMeshModel" (418 : Nat) ({ cls := "EarthMeshModel", name := "canBuild", desc := "(I)Z" } : Jvm.MethodName)) ∈ lw_all := lw_g (lw_at lw_m9 36 rfl) rfl
theorem q2086 : (Jvm.Cond.privateMethod ({ cls := "EarthMeshModel", name := "canBuild", desc := "(I)Z" } : Jvm.MethodName)) ∈ lw_tbl := lw_at lw_m9 37 rfl
theorem q2087 : (Jvm.Cond.instanceMethod ({ cls := "EarthMeshModel", name := "canBuild", desc := "(I)Z" } : Jvm.MethodName)) ∈ lw_all := lw_g (lw_at lw_m9 38 rfl) rfl
theorem q2088 : (Jvm.Cond.code ({ cls := "EarthMeshModel", name := "canBuild", desc := "(I)Z" } : Jvm.MethodName) prog_16_method_84_code (3 : Nat) (Option.some Jvm.ClassFile.FieldType.boolean)) ∈ lw_all := lw_g (lw_at lw_m9 39 rfl) rfl
theorem q2089 : (Jvm.Cond.methodLink "EarthMeshModel" (421 : Nat) ({ cls := "EarthMeshModel", name := "priceOf", desc := "(I)I" } : Jvm.MethodName)) ∈ lw_all := lw_g (lw_at lw_m9 40 rfl) rfl
theorem q2090 : (Jvm.Cond.privateMethod ({ cls := "EarthMeshModel", name := "priceOf", desc := "(I)I" } : Jvm.MethodName)) ∈ lw_tbl := lw_at lw_m9 41 rfl
theorem q2091 : (Jvm.Cond.instanceMethod ({ cls := "EarthMeshModel", name := "priceOf", desc := "(I)I" } : Jvm.MethodName)) ∈ lw_all := lw_g (lw_at lw_m9 42 rfl) rfl
theorem q2092 : (Jvm.Cond.code ({ cls := "EarthMeshModel", name := "priceOf", desc := "(I)I" } : Jvm.MethodName) prog_16_method_83_code (2 : Nat) (Option.some Jvm.ClassFile.FieldType.int)) ∈ lw_all := lw_g (lw_at lw_m9 43 rfl) rfl
theorem q2094 : (Jvm.Cond.instanceMethod ({ cls := "EarthMeshModel", name := "between", desc := "(IIZ)J" } : Jvm.MethodName)) ∈ lw_all := lw_g (lw_at lw_m9 45 rfl) rfl
theorem q2095 : (Jvm.Cond.selects "EarthMeshModel" ({ cls := "EarthMeshModel", name := "between", desc := "(IIZ)J" } : Jvm.MethodName) ({ cls := "EarthMeshModel", name := "between", desc := "(IIZ)J" } : Jvm.MethodName)) ∈ lw_all := lw_g (lw_at lw_m9 46 rfl) rfl
theorem q2096 : (Jvm.Cond.code ({ cls := "EarthMeshModel", name := "between", desc := "(IIZ)J" } : Jvm.MethodName) prog_16_method_89_code (6 : Nat) (Option.some Jvm.ClassFile.FieldType.long)) ∈ lw_all := lw_g (lw_at lw_m9 47 rfl) rfl
theorem q2098 : (Jvm.Cond.instanceMethod ({ cls := "EarthMeshModel", name := "seen", desc := "(IIIZ)J" } : Jvm.MethodName)) ∈ lw_all := lw_g (lw_at lw_m9 49 rfl) rfl
theorem q2099 : (Jvm.Cond.selects "EarthMeshModel" ({ cls := "EarthMeshModel", name := "seen", desc := "(IIIZ)J" } : Jvm.MethodName) ({ cls := "EarthMeshModel", name := "seen", desc := "(IIIZ)J" } : Jvm.MethodName)) ∈ lw_all := lw_g (lw_at lw_m9 50 rfl) rfl
theorem q2100 : (Jvm.Cond.code ({ cls := "EarthMeshModel", name := "seen", desc := "(IIIZ)J" } : Jvm.MethodName) prog_16_method_90_code (11 : Nat) (Option.some Jvm.ClassFile.FieldType.long)) ∈ lw_all := lw_g (lw_at lw_m9 51 rfl) rfl
theorem q2101 : (Jvm.Cond.methodLink "EarthMeshModel" (427 : Nat) ({ cls := "java/lang/Integer", name := "bitCount", desc := "(I)I" } : Jvm.MethodName)) ∈ lw_all := lw_g (lw_at lw_m9 52 rfl) rfl
theorem q2108 : (Jvm.Cond.instanceMethod ({ cls := "EarthMeshModel", name := "tell", desc := "(III)I" } : Jvm.MethodName)) ∈ lw_all := lw_g (lw_at lw_m9 59 rfl) rfl
theorem q2109 : (Jvm.Cond.selects "EarthMeshModel" ({ cls := "EarthMeshModel", name := "tell", desc := "(III)I" } : Jvm.MethodName) ({ cls := "EarthMeshModel", name := "tell", desc := "(III)I" } : Jvm.MethodName)) ∈ lw_all := lw_g (lw_at lw_m9 60 rfl) rfl
theorem q2110 : (Jvm.Cond.code ({ cls := "EarthMeshModel", name := "tell", desc := "(III)I" } : Jvm.MethodName) prog_16_method_92_code (5 : Nat) (Option.some Jvm.ClassFile.FieldType.int)) ∈ lw_all := lw_g (lw_at lw_m9 61 rfl) rfl
theorem q2112 : (Jvm.Cond.instanceMethod ({ cls := "EarthMeshModel", name := "comes", desc := "(II)I" } : Jvm.MethodName)) ∈ lw_all := lw_g (lw_at lw_m9 63 rfl) rfl
theorem q2113 : (Jvm.Cond.selects "EarthMeshModel" ({ cls := "EarthMeshModel", name := "comes", desc := "(II)I" } : Jvm.MethodName) ({ cls := "EarthMeshModel", name := "comes", desc := "(II)I" } : Jvm.MethodName)) ∈ lw_all := lw_g (lw_at lw_m9 64 rfl) rfl
theorem q2114 : (Jvm.Cond.code ({ cls := "EarthMeshModel", name := "comes", desc := "(II)I" } : Jvm.MethodName) prog_16_method_93_code (4 : Nat) (Option.some Jvm.ClassFile.FieldType.int)) ∈ lw_all := lw_g (lw_at lw_m9 65 rfl) rfl
theorem q2116 : (Jvm.Cond.instanceMethod ({ cls := "EarthMeshModel", name := "put", desc := "(IZI)I" } : Jvm.MethodName)) ∈ lw_all := lw_g (lw_at lw_m9 67 rfl) rfl
theorem q2117 : (Jvm.Cond.selects "EarthMeshModel" ({ cls := "EarthMeshModel", name := "put", desc := "(IZI)I" } : Jvm.MethodName) ({ cls := "EarthMeshModel", name := "put", desc := "(IZI)I" } : Jvm.MethodName)) ∈ lw_all := lw_g (lw_at lw_m9 68 rfl) rfl
theorem q2118 : (Jvm.Cond.code ({ cls := "EarthMeshModel", name := "put", desc := "(IZI)I" } : Jvm.MethodName) prog_16_method_95_code (5 : Nat) (Option.some Jvm.ClassFile.FieldType.int)) ∈ lw_all := lw_g (lw_at lw_m9 69 rfl) rfl
theorem q2119 : (Jvm.Cond.methodLink "EarthMeshModel" (432 : Nat) ({ cls := "EarthMeshModel", name := "freeIn", desc := "(I)I" } : Jvm.MethodName)) ∈ lw_all := lw_g (lw_at lw_m9 70 rfl) rfl
theorem q2120 : (Jvm.Cond.privateMethod ({ cls := "EarthMeshModel", name := "freeIn", desc := "(I)I" } : Jvm.MethodName)) ∈ lw_tbl := lw_at lw_m9 71 rfl
theorem q2121 : (Jvm.Cond.instanceMethod ({ cls := "EarthMeshModel", name := "freeIn", desc := "(I)I" } : Jvm.MethodName)) ∈ lw_all := lw_g (lw_at lw_m9 72 rfl) rfl
theorem q2122 : (Jvm.Cond.code ({ cls := "EarthMeshModel", name := "freeIn", desc := "(I)I" } : Jvm.MethodName) prog_16_method_94_code (3 : Nat) (Option.some Jvm.ClassFile.FieldType.int)) ∈ lw_all := lw_g (lw_at lw_m9 73 rfl) rfl
theorem q2124 : (Jvm.Cond.instanceMethod ({ cls := "EarthMeshModel", name := "stored", desc := "(II)I" } : Jvm.MethodName)) ∈ lw_all := lw_g (lw_at lw_m9 75 rfl) rfl
theorem q2125 : (Jvm.Cond.selects "EarthMeshModel" ({ cls := "EarthMeshModel", name := "stored", desc := "(II)I" } : Jvm.MethodName) ({ cls := "EarthMeshModel", name := "stored", desc := "(II)I" } : Jvm.MethodName)) ∈ lw_all := lw_g (lw_at lw_m9 76 rfl) rfl
theorem q2126 : (Jvm.Cond.code ({ cls := "EarthMeshModel", name := "stored", desc := "(II)I" } : Jvm.MethodName) prog_16_method_97_code (3 : Nat) (Option.some Jvm.ClassFile.FieldType.int)) ∈ lw_all := lw_g (lw_at lw_m9 77 rfl) rfl
theorem q2127 : (Jvm.Cond.methodLink "EarthMeshModel" (435 : Nat) ({ cls := "EarthMeshModel", name := "isPlace", desc := "(II)Z" } : Jvm.MethodName)) ∈ lw_all := lw_g (lw_at lw_m9 78 rfl) rfl
theorem q2128 : (Jvm.Cond.static ({ cls := "EarthMeshModel", name := "isPlace", desc := "(II)Z" } : Jvm.MethodName)) ∈ lw_all := lw_g (lw_at lw_m9 79 rfl) rfl
theorem q2129 : (Jvm.Cond.code ({ cls := "EarthMeshModel", name := "isPlace", desc := "(II)Z" } : Jvm.MethodName) prog_16_method_96_code (2 : Nat) (Option.some Jvm.ClassFile.FieldType.boolean)) ∈ lw_all := lw_g (lw_at lw_m9 80 rfl) rfl
theorem q2131 : (Jvm.Cond.instanceMethod ({ cls := "EarthMeshModel", name := "build", desc := "(IIIZ)I" } : Jvm.MethodName)) ∈ lw_all := lw_g (lw_at lw_m9 82 rfl) rfl
theorem q2132 : (Jvm.Cond.selects "EarthMeshModel" ({ cls := "EarthMeshModel", name := "build", desc := "(IIIZ)I" } : Jvm.MethodName) ({ cls := "EarthMeshModel", name := "build", desc := "(IIIZ)I" } : Jvm.MethodName)) ∈ lw_all := lw_g (lw_at lw_m9 83 rfl) rfl
theorem q2133 : (Jvm.Cond.code ({ cls := "EarthMeshModel", name := "build", desc := "(IIIZ)I" } : Jvm.MethodName) prog_16_method_98_code (7 : Nat) (Option.some Jvm.ClassFile.FieldType.int)) ∈ lw_all := lw_g (lw_at lw_m9 84 rfl) rfl
theorem q2151 : (Jvm.Cond.castable "EarthMeshModel" "java/lang/Object") ∈ lw_tbl := lw_at lw_m9 102 rfl
theorem in_X6 : ∀ w ∈ wsX60, w ∈ lw_all := lw_in wsX60 [1649, 1651, 1653, 1655, 1657, 1659, 1661, 1663, 1665, 1667, 1669, 1671, 1673, 1675, 1677, 1679, 1681, 1683, 1685, 1687, 1689, 1691, 1693, 1695, 1697, 1699, 1701, 1703, 1705, 1707, 1709, 1711, 1713, 1715, 1717, 1719, 1721] (by decide +kernel) (by decide +kernel)
def RJ1 : String := "java/lang/Throwable"
def TJ1 : u_T := fun k => match k with
  | 0 => ("java/lang/Throwable", "cause", "Ljava/lang/Throwable;", false)
  | 1 => ("java/lang/Throwable", "stackTrace", "[Ljava/lang/StackTraceElement;", false)
  | 2 => ("java/lang/Throwable", "suppressedExceptions", "Ljava/util/List;", false)
  | 3 => ("java/lang/Throwable", "detailMessage", "Ljava/lang/String;", false)
  | _ => ("java/lang/Throwable", "backtrace", "Ljava/lang/Object;", false)
def tyJ1 : Nat → FieldType := fun k => match k with
  | 0 => .object "java/lang/Throwable"
  | 1 => .array (.object "java/lang/StackTraceElement")
  | 2 => .object "java/util/List"
  | 3 => .object "java/lang/String"
  | _ => .object "java/lang/Object"
abbrev wsJ10 : List Cond := u_ws RJ1 TJ1 5
theorem nmJ1 : ∀ a, a < 5 → ∀ b, b < 5 → a ≠ b → (TJ1 a).2.1 ≠ (TJ1 b).2.1 := by decide +kernel
theorem tyJ1_ok : ∀ k, k < 5 → parseFieldDescriptor (TJ1 k).2.2.1 = some (tyJ1 k) := by decide +kernel
abbrev cJ1_init : ByteArray := prog_41_method_2_code
def yJ1_init : MethodName := ⟨RJ1, "<init>", "(Ljava/lang/String;)V"⟩
abbrev cJ1_init_2 : ByteArray := prog_41_method_1_code
def yJ1_init_2 : MethodName := ⟨RJ1, "<init>", "()V"⟩
abbrev cJ1_init_3 : ByteArray := prog_41_method_5_code
def yJ1_init_3 : MethodName := ⟨RJ1, "<init>", "(Ljava/lang/String;Ljava/lang/Throwable;ZZ)V"⟩
theorem q137 : (Jvm.Cond.initialized "java/lang/Throwable") ∈ lw_all := lw_g (lw_at lw_m1 8 rfl) rfl
theorem q504 : (Jvm.Cond.instanceMethod ({ cls := "java/lang/Throwable", name := "<init>", desc := "(Ljava/lang/String;)V" } : Jvm.MethodName)) ∈ lw_all := lw_g (lw_at lw_m2 135 rfl) rfl
theorem q505 : (Jvm.Cond.code ({ cls := "java/lang/Throwable", name := "<init>", desc := "(Ljava/lang/String;)V" } : Jvm.MethodName) prog_41_method_2_code (2 : Nat) (Option.none : Option Jvm.ClassFile.FieldType)) ∈ lw_all := lw_g (lw_at lw_m2 136 rfl) rfl
theorem q506 : (Jvm.Cond.methodLink "java/lang/Throwable" (1 : Nat) ({ cls := "java/lang/Object", name := "<init>", desc := "()V" } : Jvm.MethodName)) ∈ lw_all := lw_g (lw_at lw_m2 137 rfl) rfl
theorem q507 : (Jvm.Cond.fieldLink "java/lang/Throwable" (13 : Nat) "java/lang/Throwable" "UNASSIGNED_STACK" "[Ljava/lang/StackTraceElement;") ∈ lw_all := lw_g (lw_at lw_m2 138 rfl) rfl
theorem q508 : (Jvm.Cond.laysStatic "java/lang/Throwable" "UNASSIGNED_STACK" "[Ljava/lang/StackTraceElement;") ∈ lw_tbl := lw_at lw_m2 139 rfl
theorem q509 : (Jvm.Cond.fieldLink "java/lang/Throwable" (20 : Nat) "java/lang/Throwable" "SUPPRESSED_SENTINEL" "Ljava/util/List;") ∈ lw_all := lw_g (lw_at lw_m2 140 rfl) rfl
theorem q510 : (Jvm.Cond.laysStatic "java/lang/Throwable" "SUPPRESSED_SENTINEL" "Ljava/util/List;") ∈ lw_tbl := lw_at lw_m2 141 rfl
theorem q511 : (Jvm.Cond.methodLink "java/lang/Throwable" (27 : Nat) ({ cls := "java/lang/Throwable", name := "fillInStackTrace", desc := "()Ljava/lang/Throwable;" } : Jvm.MethodName)) ∈ lw_all := lw_g (lw_at lw_m2 142 rfl) rfl
theorem q512 : (Jvm.Cond.instanceMethod ({ cls := "java/lang/Throwable", name := "fillInStackTrace", desc := "()Ljava/lang/Throwable;" } : Jvm.MethodName)) ∈ lw_all := lw_g (lw_at lw_m2 143 rfl) rfl
theorem q513 : (Jvm.Cond.sameMethod "java/lang/Throwable" "java/lang/Throwable" "fillInStackTrace" "()Ljava/lang/Throwable;") ∈ lw_all := lw_g (lw_at lw_m2 144 rfl) rfl
theorem q520 : (Jvm.Cond.codeSync ({ cls := "java/lang/Throwable", name := "fillInStackTrace", desc := "()Ljava/lang/Throwable;" } : Jvm.MethodName) prog_41_method_18_code (1 : Nat) (Option.some (Jvm.ClassFile.FieldType.object "java/lang/Throwable"))) ∈ lw_all := lw_g (lw_at lw_m2 151 rfl) rfl
theorem q521 : (Jvm.Cond.methodLink "java/lang/Throwable" (202 : Nat) ({ cls := "java/lang/Throwable", name := "fillInStackTrace", desc := "(I)Ljava/lang/Throwable;" } : Jvm.MethodName)) ∈ lw_all := lw_g (lw_at lw_m2 152 rfl) rfl
theorem q522 : (Jvm.Cond.privateMethod ({ cls := "java/lang/Throwable", name := "fillInStackTrace", desc := "(I)Ljava/lang/Throwable;" } : Jvm.MethodName)) ∈ lw_tbl := lw_at lw_m2 153 rfl
theorem q523 : (Jvm.Cond.instanceMethod ({ cls := "java/lang/Throwable", name := "fillInStackTrace", desc := "(I)Ljava/lang/Throwable;" } : Jvm.MethodName)) ∈ lw_all := lw_g (lw_at lw_m2 154 rfl) rfl
theorem q524 : (Jvm.Cond.instantiable "java/lang/Throwable" (6 : Nat)) ∈ lw_all := lw_g (lw_at lw_m2 155 rfl) rfl
theorem q525 : (Jvm.Cond.native ({ cls := "java/lang/Throwable", name := "fillInStackTrace", desc := "(I)Ljava/lang/Throwable;" } : Jvm.MethodName)) ∈ lw_all := lw_g (lw_at lw_m2 156 rfl) rfl
theorem q526 : (Jvm.Cond.fieldLink "java/lang/Throwable" (198 : Nat) "java/lang/Throwable" "backtrace" "Ljava/lang/Object;") ∈ lw_all := lw_g (lw_at lw_m2 157 rfl) rfl
theorem q527 : (Jvm.Cond.fieldLink "java/lang/Throwable" (31 : Nat) "java/lang/Throwable" "detailMessage" "Ljava/lang/String;") ∈ lw_all := lw_g (lw_at lw_m2 158 rfl) rfl
theorem q528 : (Jvm.Cond.fieldLink "java/lang/Throwable" (7 : Nat) "java/lang/Throwable" "cause" "Ljava/lang/Throwable;") ∈ lw_all := lw_g (lw_at lw_m2 159 rfl) rfl
theorem q529 : (Jvm.Cond.fieldLink "java/lang/Throwable" (17 : Nat) "java/lang/Throwable" "stackTrace" "[Ljava/lang/StackTraceElement;") ∈ lw_all := lw_g (lw_at lw_m2 160 rfl) rfl
theorem q530 : (Jvm.Cond.fieldLink "java/lang/Throwable" (24 : Nat) "java/lang/Throwable" "suppressedExceptions" "Ljava/util/List;") ∈ lw_all := lw_g (lw_at lw_m2 161 rfl) rfl
theorem q532 : (Jvm.Cond.soleField "java/lang/Throwable" "backtrace") ∈ lw_all := lw_g (lw_at lw_m2 163 rfl) rfl
theorem q534 : (Jvm.Cond.soleField "java/lang/Throwable" "detailMessage") ∈ lw_all := lw_g (lw_at lw_m2 165 rfl) rfl
theorem q536 : (Jvm.Cond.soleField "java/lang/Throwable" "cause") ∈ lw_all := lw_g (lw_at lw_m2 167 rfl) rfl
theorem q538 : (Jvm.Cond.soleField "java/lang/Throwable" "stackTrace") ∈ lw_all := lw_g (lw_at lw_m2 169 rfl) rfl
theorem q540 : (Jvm.Cond.soleField "java/lang/Throwable" "depth") ∈ lw_all := lw_g (lw_at lw_m2 171 rfl) rfl
theorem q542 : (Jvm.Cond.soleField "java/lang/Throwable" "suppressedExceptions") ∈ lw_all := lw_g (lw_at lw_m2 173 rfl) rfl
theorem q549 : (Jvm.Cond.declares ({ cls := "java/lang/Throwable", name := "<init>", desc := "()V" } : Jvm.MethodName)) ∈ lw_tbl := lw_at lw_m2 180 rfl
theorem q550 : (Jvm.Cond.declares ({ cls := "java/lang/Throwable", name := "<init>", desc := "(Ljava/lang/String;)V" } : Jvm.MethodName)) ∈ lw_tbl := lw_at lw_m2 181 rfl
theorem q552 : (Jvm.Cond.lays "java/lang/Throwable" "java/lang/Throwable" "cause" "Ljava/lang/Throwable;") ∈ lw_all := lw_g (lw_at lw_m2 183 rfl) rfl
theorem q553 : (Jvm.Cond.lays "java/lang/Throwable" "java/lang/Throwable" "stackTrace" "[Ljava/lang/StackTraceElement;") ∈ lw_all := lw_g (lw_at lw_m2 184 rfl) rfl
theorem q554 : (Jvm.Cond.lays "java/lang/Throwable" "java/lang/Throwable" "suppressedExceptions" "Ljava/util/List;") ∈ lw_all := lw_g (lw_at lw_m2 185 rfl) rfl
theorem q555 : (Jvm.Cond.lays "java/lang/Throwable" "java/lang/Throwable" "detailMessage" "Ljava/lang/String;") ∈ lw_all := lw_g (lw_at lw_m2 186 rfl) rfl
theorem q556 : (Jvm.Cond.lays "java/lang/Throwable" "java/lang/Throwable" "backtrace" "Ljava/lang/Object;") ∈ lw_all := lw_g (lw_at lw_m2 187 rfl) rfl
theorem q557 : (Jvm.Cond.fieldLink "java/lang/Throwable" (198 : Nat) "java/lang/Throwable" "backtrace" "Ljava/lang/Object;") ∈ lw_all := lw_g (lw_at lw_m2 188 rfl) rfl
theorem q558 : (Jvm.Cond.superclass "java/lang/Throwable" "java/lang/Object") ∈ lw_all := lw_g (lw_at lw_m2 189 rfl) rfl
theorem q559 : (Jvm.Cond.instanceMethod ({ cls := "java/lang/Throwable", name := "<init>", desc := "()V" } : Jvm.MethodName)) ∈ lw_all := lw_g (lw_at lw_m2 190 rfl) rfl
theorem q560 : (Jvm.Cond.code ({ cls := "java/lang/Throwable", name := "<init>", desc := "()V" } : Jvm.MethodName) prog_41_method_1_code (1 : Nat) (Option.none : Option Jvm.ClassFile.FieldType)) ∈ lw_all := lw_g (lw_at lw_m2 191 rfl) rfl
theorem q971 : (Jvm.Cond.instanceMethod ({ cls := "java/lang/Throwable", name := "<init>", desc := "(Ljava/lang/String;Ljava/lang/Throwable;ZZ)V" } : Jvm.MethodName)) ∈ lw_all := lw_g (lw_at lw_m4 122 rfl) rfl
theorem q972 : (Jvm.Cond.code ({ cls := "java/lang/Throwable", name := "<init>", desc := "(Ljava/lang/String;Ljava/lang/Throwable;ZZ)V" } : Jvm.MethodName) prog_41_method_5_code (5 : Nat) (Option.none : Option Jvm.ClassFile.FieldType)) ∈ lw_all := lw_g (lw_at lw_m4 123 rfl) rfl
theorem q2134 : (Jvm.Cond.sameMethod "java/lang/Throwable" "java/lang/Throwable" "fillInStackTrace" "(I)Ljava/lang/Throwable;") ∈ lw_all := lw_g (lw_at lw_m9 85 rfl) rfl
theorem q2166 : (Jvm.Cond.castable "java/lang/Throwable" "java/lang/Object") ∈ lw_tbl := lw_at lw_m9 117 rfl
theorem in_J1 : ∀ w ∈ wsJ10, w ∈ lw_all := lw_in wsJ10 [552, 553, 554, 555, 556] (by decide +kernel) (by decide +kernel)
def RJ2 : String := "java/lang/Exception"
abbrev cJ2_init : ByteArray := prog_26_method_2_code
def yJ2_init : MethodName := ⟨RJ2, "<init>", "(Ljava/lang/String;)V"⟩
abbrev cJ2_init_2 : ByteArray := prog_26_method_1_code
def yJ2_init_2 : MethodName := ⟨RJ2, "<init>", "()V"⟩
abbrev cJ2_init_3 : ByteArray := prog_26_method_5_code
def yJ2_init_3 : MethodName := ⟨RJ2, "<init>", "(Ljava/lang/String;Ljava/lang/Throwable;ZZ)V"⟩
theorem q138 : (Jvm.Cond.initialized "java/lang/Exception") ∈ lw_all := lw_g (lw_at lw_m1 9 rfl) rfl
theorem q501 : (Jvm.Cond.instanceMethod ({ cls := "java/lang/Exception", name := "<init>", desc := "(Ljava/lang/String;)V" } : Jvm.MethodName)) ∈ lw_all := lw_g (lw_at lw_m2 132 rfl) rfl
theorem q502 : (Jvm.Cond.code ({ cls := "java/lang/Exception", name := "<init>", desc := "(Ljava/lang/String;)V" } : Jvm.MethodName) prog_26_method_2_code (2 : Nat) (Option.none : Option Jvm.ClassFile.FieldType)) ∈ lw_all := lw_g (lw_at lw_m2 133 rfl) rfl
theorem q503 : (Jvm.Cond.methodLink "java/lang/Exception" (7 : Nat) ({ cls := "java/lang/Throwable", name := "<init>", desc := "(Ljava/lang/String;)V" } : Jvm.MethodName)) ∈ lw_all := lw_g (lw_at lw_m2 134 rfl) rfl
theorem q547 : (Jvm.Cond.declares ({ cls := "java/lang/Exception", name := "<init>", desc := "()V" } : Jvm.MethodName)) ∈ lw_tbl := lw_at lw_m2 178 rfl
theorem q548 : (Jvm.Cond.declares ({ cls := "java/lang/Exception", name := "<init>", desc := "(Ljava/lang/String;)V" } : Jvm.MethodName)) ∈ lw_tbl := lw_at lw_m2 179 rfl
theorem q606 : (Jvm.Cond.instanceMethod ({ cls := "java/lang/Exception", name := "<init>", desc := "()V" } : Jvm.MethodName)) ∈ lw_all := lw_g (lw_at lw_m2 237 rfl) rfl
theorem q607 : (Jvm.Cond.code ({ cls := "java/lang/Exception", name := "<init>", desc := "()V" } : Jvm.MethodName) prog_26_method_1_code (1 : Nat) (Option.none : Option Jvm.ClassFile.FieldType)) ∈ lw_all := lw_g (lw_at lw_m2 238 rfl) rfl
theorem q608 : (Jvm.Cond.methodLink "java/lang/Exception" (1 : Nat) ({ cls := "java/lang/Throwable", name := "<init>", desc := "()V" } : Jvm.MethodName)) ∈ lw_all := lw_g (lw_at lw_m2 239 rfl) rfl
theorem q968 : (Jvm.Cond.instanceMethod ({ cls := "java/lang/Exception", name := "<init>", desc := "(Ljava/lang/String;Ljava/lang/Throwable;ZZ)V" } : Jvm.MethodName)) ∈ lw_all := lw_g (lw_at lw_m4 119 rfl) rfl
theorem q969 : (Jvm.Cond.code ({ cls := "java/lang/Exception", name := "<init>", desc := "(Ljava/lang/String;Ljava/lang/Throwable;ZZ)V" } : Jvm.MethodName) prog_26_method_5_code (5 : Nat) (Option.none : Option Jvm.ClassFile.FieldType)) ∈ lw_all := lw_g (lw_at lw_m4 120 rfl) rfl
theorem q970 : (Jvm.Cond.methodLink "java/lang/Exception" (16 : Nat) ({ cls := "java/lang/Throwable", name := "<init>", desc := "(Ljava/lang/String;Ljava/lang/Throwable;ZZ)V" } : Jvm.MethodName)) ∈ lw_all := lw_g (lw_at lw_m4 121 rfl) rfl
def RJ3 : String := "java/lang/RuntimeException"
abbrev cJ3_init : ByteArray := prog_34_method_2_code
def yJ3_init : MethodName := ⟨RJ3, "<init>", "(Ljava/lang/String;)V"⟩
abbrev cJ3_init_2 : ByteArray := prog_34_method_1_code
def yJ3_init_2 : MethodName := ⟨RJ3, "<init>", "()V"⟩
theorem q139 : (Jvm.Cond.initialized "java/lang/RuntimeException") ∈ lw_all := lw_g (lw_at lw_m1 10 rfl) rfl
theorem q498 : (Jvm.Cond.instanceMethod ({ cls := "java/lang/RuntimeException", name := "<init>", desc := "(Ljava/lang/String;)V" } : Jvm.MethodName)) ∈ lw_all := lw_g (lw_at lw_m2 129 rfl) rfl
theorem q499 : (Jvm.Cond.code ({ cls := "java/lang/RuntimeException", name := "<init>", desc := "(Ljava/lang/String;)V" } : Jvm.MethodName) prog_34_method_2_code (2 : Nat) (Option.none : Option Jvm.ClassFile.FieldType)) ∈ lw_all := lw_g (lw_at lw_m2 130 rfl) rfl
theorem q500 : (Jvm.Cond.methodLink "java/lang/RuntimeException" (7 : Nat) ({ cls := "java/lang/Exception", name := "<init>", desc := "(Ljava/lang/String;)V" } : Jvm.MethodName)) ∈ lw_all := lw_g (lw_at lw_m2 131 rfl) rfl
theorem q545 : (Jvm.Cond.declares ({ cls := "java/lang/RuntimeException", name := "<init>", desc := "()V" } : Jvm.MethodName)) ∈ lw_tbl := lw_at lw_m2 176 rfl
theorem q546 : (Jvm.Cond.declares ({ cls := "java/lang/RuntimeException", name := "<init>", desc := "(Ljava/lang/String;)V" } : Jvm.MethodName)) ∈ lw_tbl := lw_at lw_m2 177 rfl
theorem q603 : (Jvm.Cond.instanceMethod ({ cls := "java/lang/RuntimeException", name := "<init>", desc := "()V" } : Jvm.MethodName)) ∈ lw_all := lw_g (lw_at lw_m2 234 rfl) rfl
theorem q604 : (Jvm.Cond.code ({ cls := "java/lang/RuntimeException", name := "<init>", desc := "()V" } : Jvm.MethodName) prog_34_method_1_code (1 : Nat) (Option.none : Option Jvm.ClassFile.FieldType)) ∈ lw_all := lw_g (lw_at lw_m2 235 rfl) rfl
theorem q605 : (Jvm.Cond.methodLink "java/lang/RuntimeException" (1 : Nat) ({ cls := "java/lang/Exception", name := "<init>", desc := "()V" } : Jvm.MethodName)) ∈ lw_all := lw_g (lw_at lw_m2 236 rfl) rfl
def RJ4 : String := "java/lang/IllegalArgumentException"
def TJ4 : u_T := fun k => match k with
  | 0 => ("java/lang/Throwable", "cause", "Ljava/lang/Throwable;", false)
  | 1 => ("java/lang/Throwable", "stackTrace", "[Ljava/lang/StackTraceElement;", false)
  | 2 => ("java/lang/Throwable", "suppressedExceptions", "Ljava/util/List;", false)
  | 3 => ("java/lang/Throwable", "detailMessage", "Ljava/lang/String;", false)
  | 4 => ("java/lang/Throwable", "backtrace", "Ljava/lang/Object;", false)
  | _ => ("java/lang/Throwable", "depth", "I", false)
def tyJ4 : Nat → FieldType := fun k => match k with
  | 0 => .object "java/lang/Throwable"
  | 1 => .array (.object "java/lang/StackTraceElement")
  | 2 => .object "java/util/List"
  | 3 => .object "java/lang/String"
  | 4 => .object "java/lang/Object"
  | _ => .int
abbrev wsJ40 : List Cond := u_ws RJ4 TJ4 6
theorem nmJ4 : ∀ a, a < 6 → ∀ b, b < 6 → a ≠ b → (TJ4 a).2.1 ≠ (TJ4 b).2.1 := by decide +kernel
theorem tyJ4_ok : ∀ k, k < 6 → parseFieldDescriptor (TJ4 k).2.2.1 = some (tyJ4 k) := by decide +kernel
abbrev cJ4_init : ByteArray := prog_28_method_1_code
def yJ4_init : MethodName := ⟨RJ4, "<init>", "()V"⟩
abbrev cJ4_init_2 : ByteArray := prog_28_method_2_code
def yJ4_init_2 : MethodName := ⟨RJ4, "<init>", "(Ljava/lang/String;)V"⟩
theorem q140 : (Jvm.Cond.initialized "java/lang/IllegalArgumentException") ∈ lw_all := lw_g (lw_at lw_m1 11 rfl) rfl
theorem q517 : (Jvm.Cond.selects "java/lang/IllegalArgumentException" ({ cls := "java/lang/Throwable", name := "fillInStackTrace", desc := "()Ljava/lang/Throwable;" } : Jvm.MethodName) ({ cls := "java/lang/Throwable", name := "fillInStackTrace", desc := "()Ljava/lang/Throwable;" } : Jvm.MethodName)) ∈ lw_all := lw_g (lw_at lw_m2 148 rfl) rfl
theorem q591 : (Jvm.Cond.instantiable "java/lang/IllegalArgumentException" (6 : Nat)) ∈ lw_all := lw_g (lw_at lw_m2 222 rfl) rfl
theorem q592 : (Jvm.Cond.castable "java/lang/IllegalArgumentException" "java/lang/IllegalArgumentException") ∈ lw_tbl := lw_at lw_m2 223 rfl
theorem q593 : (Jvm.Cond.selects "java/lang/IllegalArgumentException" ({ cls := "java/lang/Throwable", name := "fillInStackTrace", desc := "(I)Ljava/lang/Throwable;" } : Jvm.MethodName) ({ cls := "java/lang/Throwable", name := "fillInStackTrace", desc := "(I)Ljava/lang/Throwable;" } : Jvm.MethodName)) ∈ lw_all := lw_g (lw_at lw_m2 224 rfl) rfl
theorem q594 : (Jvm.Cond.lays "java/lang/IllegalArgumentException" "java/lang/Throwable" "cause" "Ljava/lang/Throwable;") ∈ lw_all := lw_g (lw_at lw_m2 225 rfl) rfl
theorem q595 : (Jvm.Cond.lays "java/lang/IllegalArgumentException" "java/lang/Throwable" "stackTrace" "[Ljava/lang/StackTraceElement;") ∈ lw_all := lw_g (lw_at lw_m2 226 rfl) rfl
theorem q596 : (Jvm.Cond.lays "java/lang/IllegalArgumentException" "java/lang/Throwable" "suppressedExceptions" "Ljava/util/List;") ∈ lw_all := lw_g (lw_at lw_m2 227 rfl) rfl
theorem q597 : (Jvm.Cond.lays "java/lang/IllegalArgumentException" "java/lang/Throwable" "detailMessage" "Ljava/lang/String;") ∈ lw_all := lw_g (lw_at lw_m2 228 rfl) rfl
theorem q598 : (Jvm.Cond.lays "java/lang/IllegalArgumentException" "java/lang/Throwable" "backtrace" "Ljava/lang/Object;") ∈ lw_all := lw_g (lw_at lw_m2 229 rfl) rfl
theorem q600 : (Jvm.Cond.instanceMethod ({ cls := "java/lang/IllegalArgumentException", name := "<init>", desc := "()V" } : Jvm.MethodName)) ∈ lw_all := lw_g (lw_at lw_m2 231 rfl) rfl
theorem q601 : (Jvm.Cond.code ({ cls := "java/lang/IllegalArgumentException", name := "<init>", desc := "()V" } : Jvm.MethodName) prog_28_method_1_code (1 : Nat) (Option.none : Option Jvm.ClassFile.FieldType)) ∈ lw_all := lw_g (lw_at lw_m2 232 rfl) rfl
theorem q602 : (Jvm.Cond.methodLink "java/lang/IllegalArgumentException" (1 : Nat) ({ cls := "java/lang/RuntimeException", name := "<init>", desc := "()V" } : Jvm.MethodName)) ∈ lw_all := lw_g (lw_at lw_m2 233 rfl) rfl
theorem q609 : (Jvm.Cond.lays "java/lang/IllegalArgumentException" "java/lang/Throwable" "depth" "I") ∈ lw_all := lw_g (lw_at lw_m3 0 rfl) rfl
theorem q610 : (Jvm.Cond.superclass "java/lang/IllegalArgumentException" "java/lang/RuntimeException") ∈ lw_all := lw_g (lw_at lw_m3 1 rfl) rfl
theorem q875 : (Jvm.Cond.instanceMethod ({ cls := "java/lang/IllegalArgumentException", name := "<init>", desc := "(Ljava/lang/String;)V" } : Jvm.MethodName)) ∈ lw_all := lw_g (lw_at lw_m4 26 rfl) rfl
theorem q876 : (Jvm.Cond.code ({ cls := "java/lang/IllegalArgumentException", name := "<init>", desc := "(Ljava/lang/String;)V" } : Jvm.MethodName) prog_28_method_2_code (2 : Nat) (Option.none : Option Jvm.ClassFile.FieldType)) ∈ lw_all := lw_g (lw_at lw_m4 27 rfl) rfl
theorem q877 : (Jvm.Cond.methodLink "java/lang/IllegalArgumentException" (7 : Nat) ({ cls := "java/lang/RuntimeException", name := "<init>", desc := "(Ljava/lang/String;)V" } : Jvm.MethodName)) ∈ lw_all := lw_g (lw_at lw_m4 28 rfl) rfl
theorem q2152 : (Jvm.Cond.castable "java/lang/IllegalArgumentException" "java/lang/Object") ∈ lw_tbl := lw_at lw_m9 103 rfl
theorem in_J4 : ∀ w ∈ wsJ40, w ∈ lw_all := lw_in wsJ40 [594, 595, 596, 597, 598, 609] (by decide +kernel) (by decide +kernel)
def RX7 : String := "EarthMesh$Reader"
def TX7 : u_T := fun k => match k with
  | 0 => ("EarthMesh$Reader", "size", "I", true)
  | 1 => ("EarthMesh$Reader", "its", "LEarthMesh$Mesh;", true)
  | 2 => ("EarthMesh$Reader", "next", "I", false)
  | 3 => ("EarthMesh$Reader", "place", "I", false)
  | 4 => ("EarthMesh$Reader", "value", "I", false)
  | 5 => ("EarthMesh$Reader", "sort", "LEarthMesh$Sort;", false)
  | 6 => ("EarthMesh$Reader", "word", "Ljava/lang/String;", false)
  | _ => ("EarthMesh$Reader", "this$0", "LEarthMesh;", true)
def tyX7 : Nat → FieldType := fun k => match k with
  | 0 => .int
  | 1 => .object "EarthMesh$Mesh"
  | 2 => .int
  | 3 => .int
  | 4 => .int
  | 5 => .object "EarthMesh$Sort"
  | 6 => .object "java/lang/String"
  | _ => .object "EarthMesh"
abbrev wsX70 : List Cond := u_ws RX7 TX7 8
theorem nmX7 : ∀ a, a < 8 → ∀ b, b < 8 → a ≠ b → (TX7 a).2.1 ≠ (TX7 b).2.1 := by decide +kernel
theorem tyX7_ok : ∀ k, k < 8 → parseFieldDescriptor (TX7 k).2.2.1 = some (tyX7 k) := by decide +kernel
abbrev cX7_init : ByteArray := prog_11_method_1_code
def yX7_init : MethodName := ⟨RX7, "<init>", "(LEarthMesh;I)V"⟩
abbrev cX7_go : ByteArray := prog_11_method_5_code
def yX7_go : MethodName := ⟨RX7, "go", "()V"⟩
abbrev cX7_byteAt : ByteArray := prog_11_method_2_code
def yX7_byteAt : MethodName := ⟨RX7, "byteAt", "(I)I"⟩
abbrev cX7_isLetter : ByteArray := prog_11_method_3_code
def yX7_isLetter : MethodName := ⟨RX7, "isLetter", "(I)Z"⟩
abbrev cX7_isDigit : ByteArray := prog_11_method_4_code
def yX7_isDigit : MethodName := ⟨RX7, "isDigit", "(I)Z"⟩
abbrev cX7_whole : ByteArray := prog_11_method_10_code
def yX7_whole : MethodName := ⟨RX7, "whole", "()LEarthMesh$Mesh;"⟩
abbrev cX7_check : ByteArray := prog_11_method_6_code
def yX7_check : MethodName := ⟨RX7, "check", "(ZI)V"⟩
abbrev cX7_number : ByteArray := prog_11_method_7_code
def yX7_number : MethodName := ⟨RX7, "number", "(II)I"⟩
abbrev cX7_ends : ByteArray := prog_11_method_9_code
def yX7_ends : MethodName := ⟨RX7, "ends", "()V"⟩
abbrev cX7_clause : ByteArray := prog_11_method_12_code
def yX7_clause : MethodName := ⟨RX7, "clause", "()V"⟩
abbrev cX7_much : ByteArray := prog_11_method_11_code
def yX7_much : MethodName := ⟨RX7, "much", "(I)V"⟩
abbrev cX7_node : ByteArray := prog_11_method_8_code
def yX7_node : MethodName := ⟨RX7, "node", "(I)I"⟩
theorem q141 : (Jvm.Cond.initialized "EarthMesh$Reader") ∈ lw_all := lw_g (lw_at lw_m1 12 rfl) rfl
theorem q184 : (Jvm.Cond.fieldLinkNest "EarthMesh$Reader" (126 : Nat) "EarthMesh$Mesh" "columns" "I" "EarthMesh") ∈ lw_tbl := lw_at lw_m1 55 rfl
theorem q187 : (Jvm.Cond.fieldLinkNest "EarthMesh$Reader" (129 : Nat) "EarthMesh$Mesh" "lines" "I" "EarthMesh") ∈ lw_tbl := lw_at lw_m1 58 rfl
theorem q189 : (Jvm.Cond.fieldLinkNest "EarthMesh$Reader" (166 : Nat) "EarthMesh$Mesh" "node" "I" "EarthMesh") ∈ lw_tbl := lw_at lw_m1 60 rfl
theorem q192 : (Jvm.Cond.fieldLinkNest "EarthMesh$Reader" (168 : Nat) "EarthMesh$Mesh" "amperes" "I" "EarthMesh") ∈ lw_tbl := lw_at lw_m1 63 rfl
theorem q195 : (Jvm.Cond.fieldLinkNest "EarthMesh$Reader" (171 : Nat) "EarthMesh$Mesh" "cover" "I" "EarthMesh") ∈ lw_tbl := lw_at lw_m1 66 rfl
theorem q197 : (Jvm.Cond.fieldLinkNest "EarthMesh$Reader" (173 : Nat) "EarthMesh$Mesh" "step" "I" "EarthMesh") ∈ lw_tbl := lw_at lw_m1 68 rfl
theorem q200 : (Jvm.Cond.fieldLinkNest "EarthMesh$Reader" (176 : Nat) "EarthMesh$Mesh" "touch" "I" "EarthMesh") ∈ lw_tbl := lw_at lw_m1 71 rfl
theorem q203 : (Jvm.Cond.fieldLinkNest "EarthMesh$Reader" (179 : Nat) "EarthMesh$Mesh" "barPrice" "I" "EarthMesh") ∈ lw_tbl := lw_at lw_m1 74 rfl
theorem q206 : (Jvm.Cond.fieldLinkNest "EarthMesh$Reader" (182 : Nat) "EarthMesh$Mesh" "rodPrice" "I" "EarthMesh") ∈ lw_tbl := lw_at lw_m1 77 rfl
theorem q209 : (Jvm.Cond.fieldLinkNest "EarthMesh$Reader" (185 : Nat) "EarthMesh$Mesh" "bears" "I" "EarthMesh") ∈ lw_tbl := lw_at lw_m1 80 rfl
theorem q213 : (Jvm.Cond.fieldLinkNest "EarthMesh$Reader" (141 : Nat) "EarthMesh$Mesh" "much" "[[I" "EarthMesh") ∈ lw_tbl := lw_at lw_m1 84 rfl
theorem q366 : (Jvm.Cond.fieldLinkNest "EarthMesh$Reader" (35 : Nat) "EarthMesh" "tape" "[B" "EarthMesh") ∈ lw_tbl := lw_at lw_m1 237 rfl
theorem q612 : (Jvm.Cond.instantiable "EarthMesh$Reader" (8 : Nat)) ∈ lw_all := lw_g (lw_at lw_m3 3 rfl) rfl
theorem q614 : (Jvm.Cond.instanceMethod ({ cls := "EarthMesh$Reader", name := "<init>", desc := "(LEarthMesh;I)V" } : Jvm.MethodName)) ∈ lw_all := lw_g (lw_at lw_m3 5 rfl) rfl
theorem q615 : (Jvm.Cond.code ({ cls := "EarthMesh$Reader", name := "<init>", desc := "(LEarthMesh;I)V" } : Jvm.MethodName) prog_11_method_1_code (3 : Nat) (Option.none : Option Jvm.ClassFile.FieldType)) ∈ lw_all := lw_g (lw_at lw_m3 6 rfl) rfl
theorem q616 : (Jvm.Cond.methodLink "EarthMesh$Reader" (9 : Nat) ({ cls := "java/lang/Object", name := "<init>", desc := "()V" } : Jvm.MethodName)) ∈ lw_all := lw_g (lw_at lw_m3 7 rfl) rfl
theorem q617 : (Jvm.Cond.classLink "EarthMesh$Reader" (15 : Nat) "EarthMesh$Mesh") ∈ lw_all := lw_g (lw_at lw_m3 8 rfl) rfl
theorem q618 : (Jvm.Cond.methodLinkNest "EarthMesh$Reader" (17 : Nat) ({ cls := "EarthMesh$Mesh", name := "<init>", desc := "()V" } : Jvm.MethodName) "EarthMesh") ∈ lw_tbl := lw_at lw_m3 9 rfl
theorem q619 : (Jvm.Cond.stringRef "EarthMesh$Reader" (22 : Nat) "") ∈ lw_tbl := lw_at lw_m3 10 rfl
theorem q620 : (Jvm.Cond.methodLink "EarthMesh$Reader" (32 : Nat) ({ cls := "EarthMesh$Reader", name := "go", desc := "()V" } : Jvm.MethodName)) ∈ lw_all := lw_g (lw_at lw_m3 11 rfl) rfl
theorem q621 : (Jvm.Cond.privateMethod ({ cls := "EarthMesh$Reader", name := "go", desc := "()V" } : Jvm.MethodName)) ∈ lw_tbl := lw_at lw_m3 12 rfl
theorem q622 : (Jvm.Cond.instanceMethod ({ cls := "EarthMesh$Reader", name := "go", desc := "()V" } : Jvm.MethodName)) ∈ lw_all := lw_g (lw_at lw_m3 13 rfl) rfl
theorem q623 : (Jvm.Cond.code ({ cls := "EarthMesh$Reader", name := "go", desc := "()V" } : Jvm.MethodName) prog_11_method_5_code (3 : Nat) (Option.none : Option Jvm.ClassFile.FieldType)) ∈ lw_all := lw_g (lw_at lw_m3 14 rfl) rfl
theorem q624 : (Jvm.Cond.methodLink "EarthMesh$Reader" (42 : Nat) ({ cls := "EarthMesh$Reader", name := "byteAt", desc := "(I)I" } : Jvm.MethodName)) ∈ lw_all := lw_g (lw_at lw_m3 15 rfl) rfl
theorem q625 : (Jvm.Cond.privateMethod ({ cls := "EarthMesh$Reader", name := "byteAt", desc := "(I)I" } : Jvm.MethodName)) ∈ lw_tbl := lw_at lw_m3 16 rfl
theorem q626 : (Jvm.Cond.instanceMethod ({ cls := "EarthMesh$Reader", name := "byteAt", desc := "(I)I" } : Jvm.MethodName)) ∈ lw_all := lw_g (lw_at lw_m3 17 rfl) rfl
theorem q627 : (Jvm.Cond.code ({ cls := "EarthMesh$Reader", name := "byteAt", desc := "(I)I" } : Jvm.MethodName) prog_11_method_2_code (2 : Nat) (Option.some Jvm.ClassFile.FieldType.int)) ∈ lw_all := lw_g (lw_at lw_m3 18 rfl) rfl
theorem q628 : (Jvm.Cond.fieldLink "EarthMesh$Reader" (49 : Nat) "EarthMesh$Sort" "END" "LEarthMesh$Sort;") ∈ lw_all := lw_g (lw_at lw_m3 19 rfl) rfl
theorem q630 : (Jvm.Cond.methodLink "EarthMesh$Reader" (58 : Nat) ({ cls := "EarthMesh$Reader", name := "isLetter", desc := "(I)Z" } : Jvm.MethodName)) ∈ lw_all := lw_g (lw_at lw_m3 21 rfl) rfl
theorem q631 : (Jvm.Cond.privateMethod ({ cls := "EarthMesh$Reader", name := "isLetter", desc := "(I)Z" } : Jvm.MethodName)) ∈ lw_tbl := lw_at lw_m3 22 rfl
theorem q632 : (Jvm.Cond.instanceMethod ({ cls := "EarthMesh$Reader", name := "isLetter", desc := "(I)Z" } : Jvm.MethodName)) ∈ lw_all := lw_g (lw_at lw_m3 23 rfl) rfl
theorem q633 : (Jvm.Cond.code ({ cls := "EarthMesh$Reader", name := "isLetter", desc := "(I)Z" } : Jvm.MethodName) prog_11_method_3_code (2 : Nat) (Option.some Jvm.ClassFile.FieldType.boolean)) ∈ lw_all := lw_g (lw_at lw_m3 24 rfl) rfl
theorem q634 : (Jvm.Cond.classLink "EarthMesh$Reader" (62 : Nat) "java/lang/StringBuilder") ∈ lw_all := lw_g (lw_at lw_m3 25 rfl) rfl
theorem q636 : (Jvm.Cond.methodLink "EarthMesh$Reader" (64 : Nat) ({ cls := "java/lang/StringBuilder", name := "<init>", desc := "(I)V" } : Jvm.MethodName)) ∈ lw_all := lw_g (lw_at lw_m3 27 rfl) rfl
theorem q665 : (Jvm.Cond.methodLink "EarthMesh$Reader" (67 : Nat) ({ cls := "java/lang/StringBuilder", name := "length", desc := "()I" } : Jvm.MethodName)) ∈ lw_all := lw_g (lw_at lw_m3 56 rfl) rfl
theorem q672 : (Jvm.Cond.methodLink "EarthMesh$Reader" (71 : Nat) ({ cls := "java/lang/StringBuilder", name := "append", desc := "(C)Ljava/lang/StringBuilder;" } : Jvm.MethodName)) ∈ lw_all := lw_g (lw_at lw_m3 63 rfl) rfl
theorem q767 : (Jvm.Cond.methodLink "EarthMesh$Reader" (75 : Nat) ({ cls := "java/lang/StringBuilder", name := "toString", desc := "()Ljava/lang/String;" } : Jvm.MethodName)) ∈ lw_all := lw_g (lw_at lw_m3 158 rfl) rfl
theorem q900 : (Jvm.Cond.fieldLink "EarthMesh$Reader" (79 : Nat) "EarthMesh$Sort" "WORD" "LEarthMesh$Sort;") ∈ lw_all := lw_g (lw_at lw_m4 51 rfl) rfl
theorem q902 : (Jvm.Cond.methodLink "EarthMesh$Reader" (82 : Nat) ({ cls := "EarthMesh$Reader", name := "isDigit", desc := "(I)Z" } : Jvm.MethodName)) ∈ lw_all := lw_g (lw_at lw_m4 53 rfl) rfl
theorem q903 : (Jvm.Cond.privateMethod ({ cls := "EarthMesh$Reader", name := "isDigit", desc := "(I)Z" } : Jvm.MethodName)) ∈ lw_tbl := lw_at lw_m4 54 rfl
theorem q904 : (Jvm.Cond.instanceMethod ({ cls := "EarthMesh$Reader", name := "isDigit", desc := "(I)Z" } : Jvm.MethodName)) ∈ lw_all := lw_g (lw_at lw_m4 55 rfl) rfl
theorem q905 : (Jvm.Cond.code ({ cls := "EarthMesh$Reader", name := "isDigit", desc := "(I)Z" } : Jvm.MethodName) prog_11_method_4_code (2 : Nat) (Option.some Jvm.ClassFile.FieldType.boolean)) ∈ lw_all := lw_g (lw_at lw_m4 56 rfl) rfl
theorem q906 : (Jvm.Cond.constant "EarthMesh$Reader" (88 : Nat) (100000 : Int32)) ∈ lw_all := lw_g (lw_at lw_m4 57 rfl) rfl
theorem q907 : (Jvm.Cond.fieldLink "EarthMesh$Reader" (89 : Nat) "EarthMesh$Sort" "NUMBER" "LEarthMesh$Sort;") ∈ lw_all := lw_g (lw_at lw_m4 58 rfl) rfl
theorem q909 : (Jvm.Cond.fieldLink "EarthMesh$Reader" (92 : Nat) "EarthMesh$Sort" "SIGN" "LEarthMesh$Sort;") ∈ lw_all := lw_g (lw_at lw_m4 60 rfl) rfl
theorem q911 : (Jvm.Cond.fieldLink "EarthMesh$Reader" (95 : Nat) "EarthMesh$Sort" "BAD" "LEarthMesh$Sort;") ∈ lw_all := lw_g (lw_at lw_m4 62 rfl) rfl
theorem q913 : (Jvm.Cond.fieldLink "EarthMesh$Reader" (28 : Nat) "EarthMesh$Reader" "size" "I") ∈ lw_all := lw_g (lw_at lw_m4 64 rfl) rfl
theorem q914 : (Jvm.Cond.fieldLink "EarthMesh$Reader" (18 : Nat) "EarthMesh$Reader" "its" "LEarthMesh$Mesh;") ∈ lw_all := lw_g (lw_at lw_m4 65 rfl) rfl
theorem q915 : (Jvm.Cond.fieldLink "EarthMesh$Reader" (39 : Nat) "EarthMesh$Reader" "next" "I") ∈ lw_all := lw_g (lw_at lw_m4 66 rfl) rfl
theorem q916 : (Jvm.Cond.fieldLink "EarthMesh$Reader" (46 : Nat) "EarthMesh$Reader" "place" "I") ∈ lw_all := lw_g (lw_at lw_m4 67 rfl) rfl
theorem q917 : (Jvm.Cond.fieldLink "EarthMesh$Reader" (85 : Nat) "EarthMesh$Reader" "value" "I") ∈ lw_all := lw_g (lw_at lw_m4 68 rfl) rfl
theorem q918 : (Jvm.Cond.fieldLink "EarthMesh$Reader" (55 : Nat) "EarthMesh$Reader" "sort" "LEarthMesh$Sort;") ∈ lw_all := lw_g (lw_at lw_m4 69 rfl) rfl
theorem q919 : (Jvm.Cond.fieldLink "EarthMesh$Reader" (24 : Nat) "EarthMesh$Reader" "word" "Ljava/lang/String;") ∈ lw_all := lw_g (lw_at lw_m4 70 rfl) rfl
theorem q920 : (Jvm.Cond.fieldLink "EarthMesh$Reader" (3 : Nat) "EarthMesh$Reader" "this$0" "LEarthMesh;") ∈ lw_all := lw_g (lw_at lw_m4 71 rfl) rfl
theorem q921 : (Jvm.Cond.laysFinal "EarthMesh$Reader" "EarthMesh$Reader" "size" "I") ∈ lw_all := lw_g (lw_at lw_m4 72 rfl) rfl
theorem q922 : (Jvm.Cond.soleField "EarthMesh$Reader" "size") ∈ lw_all := lw_g (lw_at lw_m4 73 rfl) rfl
theorem q923 : (Jvm.Cond.laysFinal "EarthMesh$Reader" "EarthMesh$Reader" "its" "LEarthMesh$Mesh;") ∈ lw_all := lw_g (lw_at lw_m4 74 rfl) rfl
theorem q924 : (Jvm.Cond.soleField "EarthMesh$Reader" "its") ∈ lw_all := lw_g (lw_at lw_m4 75 rfl) rfl
theorem q925 : (Jvm.Cond.lays "EarthMesh$Reader" "EarthMesh$Reader" "next" "I") ∈ lw_all := lw_g (lw_at lw_m4 76 rfl) rfl
theorem q926 : (Jvm.Cond.soleField "EarthMesh$Reader" "next") ∈ lw_all := lw_g (lw_at lw_m4 77 rfl) rfl
theorem q927 : (Jvm.Cond.lays "EarthMesh$Reader" "EarthMesh$Reader" "place" "I") ∈ lw_all := lw_g (lw_at lw_m4 78 rfl) rfl
theorem q928 : (Jvm.Cond.soleField "EarthMesh$Reader" "place") ∈ lw_all := lw_g (lw_at lw_m4 79 rfl) rfl
theorem q929 : (Jvm.Cond.lays "EarthMesh$Reader" "EarthMesh$Reader" "value" "I") ∈ lw_all := lw_g (lw_at lw_m4 80 rfl) rfl
theorem q930 : (Jvm.Cond.soleField "EarthMesh$Reader" "value") ∈ lw_all := lw_g (lw_at lw_m4 81 rfl) rfl
theorem q931 : (Jvm.Cond.lays "EarthMesh$Reader" "EarthMesh$Reader" "sort" "LEarthMesh$Sort;") ∈ lw_all := lw_g (lw_at lw_m4 82 rfl) rfl
theorem q932 : (Jvm.Cond.soleField "EarthMesh$Reader" "sort") ∈ lw_all := lw_g (lw_at lw_m4 83 rfl) rfl
theorem q933 : (Jvm.Cond.lays "EarthMesh$Reader" "EarthMesh$Reader" "word" "Ljava/lang/String;") ∈ lw_all := lw_g (lw_at lw_m4 84 rfl) rfl
theorem q934 : (Jvm.Cond.soleField "EarthMesh$Reader" "word") ∈ lw_all := lw_g (lw_at lw_m4 85 rfl) rfl
theorem q935 : (Jvm.Cond.laysFinal "EarthMesh$Reader" "EarthMesh$Reader" "this$0" "LEarthMesh;") ∈ lw_all := lw_g (lw_at lw_m4 86 rfl) rfl
theorem q936 : (Jvm.Cond.soleField "EarthMesh$Reader" "this$0") ∈ lw_all := lw_g (lw_at lw_m4 87 rfl) rfl
theorem q937 : (Jvm.Cond.superclass "EarthMesh$Reader" "java/lang/Object") ∈ lw_all := lw_g (lw_at lw_m4 88 rfl) rfl
theorem q939 : (Jvm.Cond.instanceMethod ({ cls := "EarthMesh$Reader", name := "whole", desc := "()LEarthMesh$Mesh;" } : Jvm.MethodName)) ∈ lw_all := lw_g (lw_at lw_m4 90 rfl) rfl
theorem q940 : (Jvm.Cond.selects "EarthMesh$Reader" ({ cls := "EarthMesh$Reader", name := "whole", desc := "()LEarthMesh$Mesh;" } : Jvm.MethodName) ({ cls := "EarthMesh$Reader", name := "whole", desc := "()LEarthMesh$Mesh;" } : Jvm.MethodName)) ∈ lw_all := lw_g (lw_at lw_m4 91 rfl) rfl
theorem q941 : (Jvm.Cond.code ({ cls := "EarthMesh$Reader", name := "whole", desc := "()LEarthMesh$Mesh;" } : Jvm.MethodName) prog_11_method_10_code (1 : Nat) (Option.some (Jvm.ClassFile.FieldType.object "EarthMesh$Mesh"))) ∈ lw_all := lw_g (lw_at lw_m4 92 rfl) rfl
theorem q942 : (Jvm.Cond.stringRef "EarthMesh$Reader" (114 : Nat) "mesh") ∈ lw_tbl := lw_at lw_m4 93 rfl
theorem q943 : (Jvm.Cond.methodLink "EarthMesh$Reader" (116 : Nat) ({ cls := "java/lang/String", name := "equals", desc := "(Ljava/lang/Object;)Z" } : Jvm.MethodName)) ∈ lw_all := lw_g (lw_at lw_m4 94 rfl) rfl
theorem q951 : (Jvm.Cond.methodLink "EarthMesh$Reader" (103 : Nat) ({ cls := "EarthMesh$Reader", name := "check", desc := "(ZI)V" } : Jvm.MethodName)) ∈ lw_all := lw_g (lw_at lw_m4 102 rfl) rfl
theorem q952 : (Jvm.Cond.privateMethod ({ cls := "EarthMesh$Reader", name := "check", desc := "(ZI)V" } : Jvm.MethodName)) ∈ lw_tbl := lw_at lw_m4 103 rfl
theorem q953 : (Jvm.Cond.instanceMethod ({ cls := "EarthMesh$Reader", name := "check", desc := "(ZI)V" } : Jvm.MethodName)) ∈ lw_all := lw_g (lw_at lw_m4 104 rfl) rfl
theorem q954 : (Jvm.Cond.code ({ cls := "EarthMesh$Reader", name := "check", desc := "(ZI)V" } : Jvm.MethodName) prog_11_method_6_code (3 : Nat) (Option.none : Option Jvm.ClassFile.FieldType)) ∈ lw_all := lw_g (lw_at lw_m4 105 rfl) rfl
theorem q955 : (Jvm.Cond.classLink "EarthMesh$Reader" (98 : Nat) "EarthMesh$Fault") ∈ lw_all := lw_g (lw_at lw_m4 106 rfl) rfl
theorem q964 : (Jvm.Cond.methodLink "EarthMesh$Reader" (100 : Nat) ({ cls := "EarthMesh$Fault", name := "<init>", desc := "(II)V" } : Jvm.MethodName)) ∈ lw_all := lw_g (lw_at lw_m4 115 rfl) rfl
theorem q983 : (Jvm.Cond.methodLink "EarthMesh$Reader" (122 : Nat) ({ cls := "EarthMesh$Reader", name := "number", desc := "(II)I" } : Jvm.MethodName)) ∈ lw_all := lw_g (lw_at lw_m4 134 rfl) rfl
theorem q984 : (Jvm.Cond.privateMethod ({ cls := "EarthMesh$Reader", name := "number", desc := "(II)I" } : Jvm.MethodName)) ∈ lw_tbl := lw_at lw_m4 135 rfl
theorem q985 : (Jvm.Cond.instanceMethod ({ cls := "EarthMesh$Reader", name := "number", desc := "(II)I" } : Jvm.MethodName)) ∈ lw_all := lw_g (lw_at lw_m4 136 rfl) rfl
theorem q986 : (Jvm.Cond.code ({ cls := "EarthMesh$Reader", name := "number", desc := "(II)I" } : Jvm.MethodName) prog_11_method_7_code (4 : Nat) (Option.some Jvm.ClassFile.FieldType.int)) ∈ lw_all := lw_g (lw_at lw_m4 137 rfl) rfl
theorem q987 : (Jvm.Cond.methodLink "EarthMesh$Reader" (132 : Nat) ({ cls := "EarthMesh$Reader", name := "ends", desc := "()V" } : Jvm.MethodName)) ∈ lw_all := lw_g (lw_at lw_m4 138 rfl) rfl
theorem q988 : (Jvm.Cond.privateMethod ({ cls := "EarthMesh$Reader", name := "ends", desc := "()V" } : Jvm.MethodName)) ∈ lw_tbl := lw_at lw_m4 139 rfl
theorem q989 : (Jvm.Cond.instanceMethod ({ cls := "EarthMesh$Reader", name := "ends", desc := "()V" } : Jvm.MethodName)) ∈ lw_all := lw_g (lw_at lw_m4 140 rfl) rfl
theorem q990 : (Jvm.Cond.code ({ cls := "EarthMesh$Reader", name := "ends", desc := "()V" } : Jvm.MethodName) prog_11_method_9_code (1 : Nat) (Option.none : Option Jvm.ClassFile.FieldType)) ∈ lw_all := lw_g (lw_at lw_m4 141 rfl) rfl
theorem q991 : (Jvm.Cond.methodLink "EarthMesh$Reader" (135 : Nat) ({ cls := "EarthMesh$Reader", name := "clause", desc := "()V" } : Jvm.MethodName)) ∈ lw_all := lw_g (lw_at lw_m4 142 rfl) rfl
theorem q992 : (Jvm.Cond.privateMethod ({ cls := "EarthMesh$Reader", name := "clause", desc := "()V" } : Jvm.MethodName)) ∈ lw_tbl := lw_at lw_m4 143 rfl
theorem q993 : (Jvm.Cond.instanceMethod ({ cls := "EarthMesh$Reader", name := "clause", desc := "()V" } : Jvm.MethodName)) ∈ lw_all := lw_g (lw_at lw_m4 144 rfl) rfl
theorem q994 : (Jvm.Cond.code ({ cls := "EarthMesh$Reader", name := "clause", desc := "()V" } : Jvm.MethodName) prog_11_method_12_code (3 : Nat) (Option.none : Option Jvm.ClassFile.FieldType)) ∈ lw_all := lw_g (lw_at lw_m4 145 rfl) rfl
theorem q995 : (Jvm.Cond.methodLink "EarthMesh$Reader" (145 : Nat) ({ cls := "java/lang/String", name := "hashCode", desc := "()I" } : Jvm.MethodName)) ∈ lw_all := lw_g (lw_at lw_m4 146 rfl) rfl
theorem q1056 : (Jvm.Cond.stringRef "EarthMesh$Reader" (148 : Nat) "across") ∈ lw_tbl := lw_at lw_m4 207 rfl
theorem q1057 : (Jvm.Cond.stringRef "EarthMesh$Reader" (150 : Nat) "up") ∈ lw_tbl := lw_at lw_m4 208 rfl
theorem q1058 : (Jvm.Cond.stringRef "EarthMesh$Reader" (152 : Nat) "rod") ∈ lw_tbl := lw_at lw_m4 209 rfl
theorem q1059 : (Jvm.Cond.stringRef "EarthMesh$Reader" (154 : Nat) "fault") ∈ lw_tbl := lw_at lw_m4 210 rfl
theorem q1060 : (Jvm.Cond.stringRef "EarthMesh$Reader" (156 : Nat) "cover") ∈ lw_tbl := lw_at lw_m4 211 rfl
theorem q1061 : (Jvm.Cond.stringRef "EarthMesh$Reader" (158 : Nat) "bound") ∈ lw_tbl := lw_at lw_m4 212 rfl
theorem q1062 : (Jvm.Cond.stringRef "EarthMesh$Reader" (160 : Nat) "price") ∈ lw_tbl := lw_at lw_m4 213 rfl
theorem q1063 : (Jvm.Cond.stringRef "EarthMesh$Reader" (162 : Nat) "bears") ∈ lw_tbl := lw_at lw_m4 214 rfl
theorem q1064 : (Jvm.Cond.methodLink "EarthMesh$Reader" (164 : Nat) ({ cls := "EarthMesh$Reader", name := "much", desc := "(I)V" } : Jvm.MethodName)) ∈ lw_all := lw_g (lw_at lw_m4 215 rfl) rfl
theorem q1065 : (Jvm.Cond.privateMethod ({ cls := "EarthMesh$Reader", name := "much", desc := "(I)V" } : Jvm.MethodName)) ∈ lw_tbl := lw_at lw_m4 216 rfl
theorem q1066 : (Jvm.Cond.instanceMethod ({ cls := "EarthMesh$Reader", name := "much", desc := "(I)V" } : Jvm.MethodName)) ∈ lw_all := lw_g (lw_at lw_m4 217 rfl) rfl
theorem q1067 : (Jvm.Cond.code ({ cls := "EarthMesh$Reader", name := "much", desc := "(I)V" } : Jvm.MethodName) prog_11_method_11_code (3 : Nat) (Option.none : Option Jvm.ClassFile.FieldType)) ∈ lw_all := lw_g (lw_at lw_m4 218 rfl) rfl
theorem q1068 : (Jvm.Cond.methodLink "EarthMesh$Reader" (138 : Nat) ({ cls := "EarthMesh$Reader", name := "node", desc := "(I)I" } : Jvm.MethodName)) ∈ lw_all := lw_g (lw_at lw_m4 219 rfl) rfl
theorem q1069 : (Jvm.Cond.privateMethod ({ cls := "EarthMesh$Reader", name := "node", desc := "(I)I" } : Jvm.MethodName)) ∈ lw_tbl := lw_at lw_m4 220 rfl
theorem q1070 : (Jvm.Cond.instanceMethod ({ cls := "EarthMesh$Reader", name := "node", desc := "(I)I" } : Jvm.MethodName)) ∈ lw_all := lw_g (lw_at lw_m4 221 rfl) rfl
theorem q1071 : (Jvm.Cond.code ({ cls := "EarthMesh$Reader", name := "node", desc := "(I)I" } : Jvm.MethodName) prog_11_method_8_code (3 : Nat) (Option.some Jvm.ClassFile.FieldType.int)) ∈ lw_all := lw_g (lw_at lw_m4 222 rfl) rfl
theorem q1072 : (Jvm.Cond.methodLink "EarthMesh$Reader" (107 : Nat) ({ cls := "EarthMesh$Mesh", name := "nodes", desc := "()I" } : Jvm.MethodName)) ∈ lw_all := lw_g (lw_at lw_m4 223 rfl) rfl
theorem q1073 : (Jvm.Cond.methodLink "EarthMesh$Reader" (110 : Nat) ({ cls := "EarthMesh$Mesh", name := "hasPlace", desc := "(II)Z" } : Jvm.MethodName)) ∈ lw_all := lw_g (lw_at lw_m4 224 rfl) rfl
theorem q2153 : (Jvm.Cond.castable "EarthMesh$Reader" "java/lang/Object") ∈ lw_tbl := lw_at lw_m9 104 rfl
theorem in_X7 : ∀ w ∈ wsX70, w ∈ lw_all := lw_in wsX70 [921, 923, 925, 927, 929, 931, 933, 935] (by decide +kernel) (by decide +kernel)
def RJ5 : String := "java/lang/AbstractStringBuilder"
abbrev cJ5_init : ByteArray := prog_18_method_2_code
def yJ5_init : MethodName := ⟨RJ5, "<init>", "(I)V"⟩
abbrev cJ5_length : ByteArray := prog_18_method_6_code
def yJ5_length : MethodName := ⟨RJ5, "length", "()I"⟩
abbrev cJ5_append : ByteArray := prog_18_method_31_code
def yJ5_append : MethodName := ⟨RJ5, "append", "(C)Ljava/lang/AbstractStringBuilder;"⟩
abbrev cJ5_ensureCapacityInternal : ByteArray := prog_18_method_9_code
def yJ5_ensureCapacityInternal : MethodName := ⟨RJ5, "ensureCapacityInternal", "(I)V"⟩
abbrev cJ5_newCapacity : ByteArray := prog_18_method_10_code
def yJ5_newCapacity : MethodName := ⟨RJ5, "newCapacity", "(I)I"⟩
abbrev cJ5_isLatin1 : ByteArray := prog_18_method_68_code
def yJ5_isLatin1 : MethodName := ⟨RJ5, "isLatin1", "()Z"⟩
abbrev cJ5_inflate : ByteArray := prog_18_method_11_code
def yJ5_inflate : MethodName := ⟨RJ5, "inflate", "()V"⟩
abbrev cJ5_getValue : ByteArray := prog_18_method_64_code
def yJ5_getValue : MethodName := ⟨RJ5, "getValue", "()[B"⟩
abbrev cJ5_append_2 : ByteArray := prog_18_method_32_code
def yJ5_append_2 : MethodName := ⟨RJ5, "append", "(I)Ljava/lang/AbstractStringBuilder;"⟩
abbrev cJ5_append_3 : ByteArray := prog_18_method_22_code
def yJ5_append_3 : MethodName := ⟨RJ5, "append", "(Ljava/lang/String;)Ljava/lang/AbstractStringBuilder;"⟩
abbrev cJ5_appendNull : ByteArray := prog_18_method_26_code
def yJ5_appendNull : MethodName := ⟨RJ5, "appendNull", "()Ljava/lang/AbstractStringBuilder;"⟩
abbrev cJ5_putStringAt : ByteArray := prog_18_method_73_code
def yJ5_putStringAt : MethodName := ⟨RJ5, "putStringAt", "(ILjava/lang/String;)V"⟩
abbrev cJ5_inflateIfNeededFor : ByteArray := prog_18_method_71_code
def yJ5_inflateIfNeededFor : MethodName := ⟨RJ5, "inflateIfNeededFor", "(Ljava/lang/String;)V"⟩
theorem q144 : (Jvm.Cond.initialized "java/lang/AbstractStringBuilder") ∈ lw_all := lw_g (lw_at lw_m1 15 rfl) rfl
theorem q640 : (Jvm.Cond.instanceMethod ({ cls := "java/lang/AbstractStringBuilder", name := "<init>", desc := "(I)V" } : Jvm.MethodName)) ∈ lw_all := lw_g (lw_at lw_m3 31 rfl) rfl
theorem q641 : (Jvm.Cond.code ({ cls := "java/lang/AbstractStringBuilder", name := "<init>", desc := "(I)V" } : Jvm.MethodName) prog_18_method_2_code (2 : Nat) (Option.none : Option Jvm.ClassFile.FieldType)) ∈ lw_all := lw_g (lw_at lw_m3 32 rfl) rfl
theorem q642 : (Jvm.Cond.methodLink "java/lang/AbstractStringBuilder" (3 : Nat) ({ cls := "java/lang/Object", name := "<init>", desc := "()V" } : Jvm.MethodName)) ∈ lw_all := lw_g (lw_at lw_m3 33 rfl) rfl
theorem q643 : (Jvm.Cond.fieldLink "java/lang/AbstractStringBuilder" (18 : Nat) "java/lang/String" "COMPACT_STRINGS" "Z") ∈ lw_all := lw_g (lw_at lw_m3 34 rfl) rfl
theorem q645 : (Jvm.Cond.methodLink "java/lang/AbstractStringBuilder" (26 : Nat) ({ cls := "java/lang/StringUTF16", name := "newBytesFor", desc := "(I)[B" } : Jvm.MethodName)) ∈ lw_all := lw_g (lw_at lw_m3 36 rfl) rfl
theorem q652 : (Jvm.Cond.fieldLink "java/lang/AbstractStringBuilder" (15 : Nat) "java/lang/AbstractStringBuilder" "value" "[B") ∈ lw_all := lw_g (lw_at lw_m3 43 rfl) rfl
theorem q653 : (Jvm.Cond.fieldLink "java/lang/AbstractStringBuilder" (22 : Nat) "java/lang/AbstractStringBuilder" "coder" "B") ∈ lw_all := lw_g (lw_at lw_m3 44 rfl) rfl
theorem q655 : (Jvm.Cond.fieldLink "java/lang/AbstractStringBuilder" (79 : Nat) "java/lang/AbstractStringBuilder" "count" "I") ∈ lw_all := lw_g (lw_at lw_m3 46 rfl) rfl
theorem q657 : (Jvm.Cond.soleField "java/lang/AbstractStringBuilder" "value") ∈ lw_all := lw_g (lw_at lw_m3 48 rfl) rfl
theorem q659 : (Jvm.Cond.soleField "java/lang/AbstractStringBuilder" "coder") ∈ lw_all := lw_g (lw_at lw_m3 50 rfl) rfl
theorem q661 : (Jvm.Cond.soleField "java/lang/AbstractStringBuilder" "maybeLatin1") ∈ lw_all := lw_g (lw_at lw_m3 52 rfl) rfl
theorem q663 : (Jvm.Cond.soleField "java/lang/AbstractStringBuilder" "count") ∈ lw_all := lw_g (lw_at lw_m3 54 rfl) rfl
theorem q670 : (Jvm.Cond.instanceMethod ({ cls := "java/lang/AbstractStringBuilder", name := "length", desc := "()I" } : Jvm.MethodName)) ∈ lw_all := lw_g (lw_at lw_m3 61 rfl) rfl
theorem q671 : (Jvm.Cond.code ({ cls := "java/lang/AbstractStringBuilder", name := "length", desc := "()I" } : Jvm.MethodName) prog_18_method_6_code (1 : Nat) (Option.some Jvm.ClassFile.FieldType.int)) ∈ lw_all := lw_g (lw_at lw_m3 62 rfl) rfl
theorem q677 : (Jvm.Cond.instanceMethod ({ cls := "java/lang/AbstractStringBuilder", name := "append", desc := "(C)Ljava/lang/AbstractStringBuilder;" } : Jvm.MethodName)) ∈ lw_all := lw_g (lw_at lw_m3 68 rfl) rfl
theorem q678 : (Jvm.Cond.code ({ cls := "java/lang/AbstractStringBuilder", name := "append", desc := "(C)Ljava/lang/AbstractStringBuilder;" } : Jvm.MethodName) prog_18_method_31_code (2 : Nat) (Option.some (Jvm.ClassFile.FieldType.object "java/lang/AbstractStringBuilder"))) ∈ lw_all := lw_g (lw_at lw_m3 69 rfl) rfl
theorem q679 : (Jvm.Cond.methodLink "java/lang/AbstractStringBuilder" (100 : Nat) ({ cls := "java/lang/AbstractStringBuilder", name := "ensureCapacityInternal", desc := "(I)V" } : Jvm.MethodName)) ∈ lw_all := lw_g (lw_at lw_m3 70 rfl) rfl
theorem q680 : (Jvm.Cond.privateMethod ({ cls := "java/lang/AbstractStringBuilder", name := "ensureCapacityInternal", desc := "(I)V" } : Jvm.MethodName)) ∈ lw_tbl := lw_at lw_m3 71 rfl
theorem q681 : (Jvm.Cond.instanceMethod ({ cls := "java/lang/AbstractStringBuilder", name := "ensureCapacityInternal", desc := "(I)V" } : Jvm.MethodName)) ∈ lw_all := lw_g (lw_at lw_m3 72 rfl) rfl
theorem q682 : (Jvm.Cond.code ({ cls := "java/lang/AbstractStringBuilder", name := "ensureCapacityInternal", desc := "(I)V" } : Jvm.MethodName) prog_18_method_9_code (3 : Nat) (Option.none : Option Jvm.ClassFile.FieldType)) ∈ lw_all := lw_g (lw_at lw_m3 73 rfl) rfl
theorem q683 : (Jvm.Cond.methodLink "java/lang/AbstractStringBuilder" (104 : Nat) ({ cls := "java/lang/AbstractStringBuilder", name := "newCapacity", desc := "(I)I" } : Jvm.MethodName)) ∈ lw_all := lw_g (lw_at lw_m3 74 rfl) rfl
theorem q684 : (Jvm.Cond.privateMethod ({ cls := "java/lang/AbstractStringBuilder", name := "newCapacity", desc := "(I)I" } : Jvm.MethodName)) ∈ lw_tbl := lw_at lw_m3 75 rfl
theorem q685 : (Jvm.Cond.instanceMethod ({ cls := "java/lang/AbstractStringBuilder", name := "newCapacity", desc := "(I)I" } : Jvm.MethodName)) ∈ lw_all := lw_g (lw_at lw_m3 76 rfl) rfl
theorem q686 : (Jvm.Cond.code ({ cls := "java/lang/AbstractStringBuilder", name := "newCapacity", desc := "(I)I" } : Jvm.MethodName) prog_18_method_10_code (6 : Nat) (Option.some Jvm.ClassFile.FieldType.int)) ∈ lw_all := lw_g (lw_at lw_m3 77 rfl) rfl
theorem q687 : (Jvm.Cond.methodLink "java/lang/AbstractStringBuilder" (114 : Nat) ({ cls := "jdk/internal/util/ArraysSupport", name := "newLength", desc := "(III)I" } : Jvm.MethodName)) ∈ lw_all := lw_g (lw_at lw_m3 78 rfl) rfl
theorem q697 : (Jvm.Cond.constant "java/lang/AbstractStringBuilder" (39 : Nat) (2147483647 : Int32)) ∈ lw_all := lw_g (lw_at lw_m3 88 rfl) rfl
theorem q698 : (Jvm.Cond.methodLink "java/lang/AbstractStringBuilder" (108 : Nat) ({ cls := "java/util/Arrays", name := "copyOf", desc := "([BI)[B" } : Jvm.MethodName)) ∈ lw_all := lw_g (lw_at lw_m3 89 rfl) rfl
theorem q714 : (Jvm.Cond.methodLink "java/lang/AbstractStringBuilder" (83 : Nat) ({ cls := "java/lang/AbstractStringBuilder", name := "isLatin1", desc := "()Z" } : Jvm.MethodName)) ∈ lw_all := lw_g (lw_at lw_m3 105 rfl) rfl
theorem q715 : (Jvm.Cond.instanceMethod ({ cls := "java/lang/AbstractStringBuilder", name := "isLatin1", desc := "()Z" } : Jvm.MethodName)) ∈ lw_all := lw_g (lw_at lw_m3 106 rfl) rfl
theorem q716 : (Jvm.Cond.sameMethod "java/lang/AbstractStringBuilder" "java/lang/AbstractStringBuilder" "isLatin1" "()Z") ∈ lw_all := lw_g (lw_at lw_m3 107 rfl) rfl
theorem q718 : (Jvm.Cond.code ({ cls := "java/lang/AbstractStringBuilder", name := "isLatin1", desc := "()Z" } : Jvm.MethodName) prog_18_method_68_code (1 : Nat) (Option.some Jvm.ClassFile.FieldType.boolean)) ∈ lw_all := lw_g (lw_at lw_m3 109 rfl) rfl
theorem q719 : (Jvm.Cond.methodLink "java/lang/AbstractStringBuilder" (191 : Nat) ({ cls := "java/lang/StringLatin1", name := "canEncode", desc := "(C)Z" } : Jvm.MethodName)) ∈ lw_all := lw_g (lw_at lw_m3 110 rfl) rfl
theorem q722 : (Jvm.Cond.methodLink "java/lang/AbstractStringBuilder" (195 : Nat) ({ cls := "java/lang/AbstractStringBuilder", name := "inflate", desc := "()V" } : Jvm.MethodName)) ∈ lw_all := lw_g (lw_at lw_m3 113 rfl) rfl
theorem q723 : (Jvm.Cond.privateMethod ({ cls := "java/lang/AbstractStringBuilder", name := "inflate", desc := "()V" } : Jvm.MethodName)) ∈ lw_tbl := lw_at lw_m3 114 rfl
theorem q724 : (Jvm.Cond.instanceMethod ({ cls := "java/lang/AbstractStringBuilder", name := "inflate", desc := "()V" } : Jvm.MethodName)) ∈ lw_all := lw_g (lw_at lw_m3 115 rfl) rfl
theorem q725 : (Jvm.Cond.code ({ cls := "java/lang/AbstractStringBuilder", name := "inflate", desc := "()V" } : Jvm.MethodName) prog_18_method_11_code (2 : Nat) (Option.none : Option Jvm.ClassFile.FieldType)) ∈ lw_all := lw_g (lw_at lw_m3 116 rfl) rfl
theorem q726 : (Jvm.Cond.methodLink "java/lang/AbstractStringBuilder" (125 : Nat) ({ cls := "java/lang/StringLatin1", name := "inflate", desc := "([BI[BII)V" } : Jvm.MethodName)) ∈ lw_all := lw_g (lw_at lw_m3 117 rfl) rfl
theorem q755 : (Jvm.Cond.methodLink "java/lang/AbstractStringBuilder" (197 : Nat) ({ cls := "java/lang/StringUTF16", name := "putCharSB", desc := "([BII)V" } : Jvm.MethodName)) ∈ lw_all := lw_g (lw_at lw_m3 146 rfl) rfl
theorem q780 : (Jvm.Cond.instanceMethod ({ cls := "java/lang/AbstractStringBuilder", name := "getValue", desc := "()[B" } : Jvm.MethodName)) ∈ lw_all := lw_g (lw_at lw_m3 171 rfl) rfl
theorem q781 : (Jvm.Cond.sameMethod "java/lang/AbstractStringBuilder" "java/lang/AbstractStringBuilder" "getValue" "()[B") ∈ lw_all := lw_g (lw_at lw_m3 172 rfl) rfl
theorem q783 : (Jvm.Cond.code ({ cls := "java/lang/AbstractStringBuilder", name := "getValue", desc := "()[B" } : Jvm.MethodName) prog_18_method_64_code (1 : Nat) (Option.some (Jvm.ClassFile.FieldType.array Jvm.ClassFile.FieldType.byte))) ∈ lw_all := lw_g (lw_at lw_m3 174 rfl) rfl
theorem q805 : (Jvm.Cond.instanceMethod ({ cls := "java/lang/AbstractStringBuilder", name := "append", desc := "(I)Ljava/lang/AbstractStringBuilder;" } : Jvm.MethodName)) ∈ lw_all := lw_g (lw_at lw_m3 196 rfl) rfl
theorem q806 : (Jvm.Cond.code ({ cls := "java/lang/AbstractStringBuilder", name := "append", desc := "(I)Ljava/lang/AbstractStringBuilder;" } : Jvm.MethodName) prog_18_method_32_code (4 : Nat) (Option.some (Jvm.ClassFile.FieldType.object "java/lang/AbstractStringBuilder"))) ∈ lw_all := lw_g (lw_at lw_m3 197 rfl) rfl
theorem q807 : (Jvm.Cond.methodLink "java/lang/AbstractStringBuilder" (245 : Nat) ({ cls := "java/lang/Integer", name := "stringSize", desc := "(I)I" } : Jvm.MethodName)) ∈ lw_all := lw_g (lw_at lw_m3 198 rfl) rfl
theorem q810 : (Jvm.Cond.methodLink "java/lang/AbstractStringBuilder" (248 : Nat) ({ cls := "java/lang/Integer", name := "getChars", desc := "(II[B)I" } : Jvm.MethodName)) ∈ lw_all := lw_g (lw_at lw_m3 201 rfl) rfl
theorem q817 : (Jvm.Cond.methodLink "java/lang/AbstractStringBuilder" (251 : Nat) ({ cls := "java/lang/StringUTF16", name := "getChars", desc := "(III[B)I" } : Jvm.MethodName)) ∈ lw_all := lw_g (lw_at lw_m3 208 rfl) rfl
theorem q840 : (Jvm.Cond.instanceMethod ({ cls := "java/lang/AbstractStringBuilder", name := "append", desc := "(Ljava/lang/String;)Ljava/lang/AbstractStringBuilder;" } : Jvm.MethodName)) ∈ lw_all := lw_g (lw_at lw_m3 231 rfl) rfl
theorem q841 : (Jvm.Cond.code ({ cls := "java/lang/AbstractStringBuilder", name := "append", desc := "(Ljava/lang/String;)Ljava/lang/AbstractStringBuilder;" } : Jvm.MethodName) prog_18_method_22_code (3 : Nat) (Option.some (Jvm.ClassFile.FieldType.object "java/lang/AbstractStringBuilder"))) ∈ lw_all := lw_g (lw_at lw_m3 232 rfl) rfl
theorem q842 : (Jvm.Cond.methodLink "java/lang/AbstractStringBuilder" (204 : Nat) ({ cls := "java/lang/AbstractStringBuilder", name := "appendNull", desc := "()Ljava/lang/AbstractStringBuilder;" } : Jvm.MethodName)) ∈ lw_all := lw_g (lw_at lw_m3 233 rfl) rfl
theorem q843 : (Jvm.Cond.privateMethod ({ cls := "java/lang/AbstractStringBuilder", name := "appendNull", desc := "()Ljava/lang/AbstractStringBuilder;" } : Jvm.MethodName)) ∈ lw_tbl := lw_at lw_m3 234 rfl
theorem q844 : (Jvm.Cond.instanceMethod ({ cls := "java/lang/AbstractStringBuilder", name := "appendNull", desc := "()Ljava/lang/AbstractStringBuilder;" } : Jvm.MethodName)) ∈ lw_all := lw_g (lw_at lw_m3 235 rfl) rfl
theorem q845 : (Jvm.Cond.code ({ cls := "java/lang/AbstractStringBuilder", name := "appendNull", desc := "()Ljava/lang/AbstractStringBuilder;" } : Jvm.MethodName) prog_18_method_26_code (3 : Nat) (Option.some (Jvm.ClassFile.FieldType.object "java/lang/AbstractStringBuilder"))) ∈ lw_all := lw_g (lw_at lw_m3 236 rfl) rfl
theorem q846 : (Jvm.Cond.methodLink "java/lang/AbstractStringBuilder" (226 : Nat) ({ cls := "java/lang/StringUTF16", name := "putCharsAt", desc := "([BICCCC)I" } : Jvm.MethodName)) ∈ lw_all := lw_g (lw_at lw_m3 237 rfl) rfl
theorem q849 : (Jvm.Cond.methodLink "java/lang/AbstractStringBuilder" (32 : Nat) ({ cls := "java/lang/String", name := "length", desc := "()I" } : Jvm.MethodName)) ∈ lw_all := lw_g (lw_at lw_m4 0 rfl) rfl
theorem q858 : (Jvm.Cond.methodLink "java/lang/AbstractStringBuilder" (208 : Nat) ({ cls := "java/lang/AbstractStringBuilder", name := "putStringAt", desc := "(ILjava/lang/String;)V" } : Jvm.MethodName)) ∈ lw_all := lw_g (lw_at lw_m4 9 rfl) rfl
theorem q859 : (Jvm.Cond.privateMethod ({ cls := "java/lang/AbstractStringBuilder", name := "putStringAt", desc := "(ILjava/lang/String;)V" } : Jvm.MethodName)) ∈ lw_tbl := lw_at lw_m4 10 rfl
theorem q860 : (Jvm.Cond.instanceMethod ({ cls := "java/lang/AbstractStringBuilder", name := "putStringAt", desc := "(ILjava/lang/String;)V" } : Jvm.MethodName)) ∈ lw_all := lw_g (lw_at lw_m4 11 rfl) rfl
theorem q861 : (Jvm.Cond.code ({ cls := "java/lang/AbstractStringBuilder", name := "putStringAt", desc := "(ILjava/lang/String;)V" } : Jvm.MethodName) prog_18_method_73_code (3 : Nat) (Option.none : Option Jvm.ClassFile.FieldType)) ∈ lw_all := lw_g (lw_at lw_m4 12 rfl) rfl
theorem q862 : (Jvm.Cond.methodLink "java/lang/AbstractStringBuilder" (397 : Nat) ({ cls := "java/lang/AbstractStringBuilder", name := "inflateIfNeededFor", desc := "(Ljava/lang/String;)V" } : Jvm.MethodName)) ∈ lw_all := lw_g (lw_at lw_m4 13 rfl) rfl
theorem q863 : (Jvm.Cond.privateMethod ({ cls := "java/lang/AbstractStringBuilder", name := "inflateIfNeededFor", desc := "(Ljava/lang/String;)V" } : Jvm.MethodName)) ∈ lw_tbl := lw_at lw_m4 14 rfl
theorem q864 : (Jvm.Cond.instanceMethod ({ cls := "java/lang/AbstractStringBuilder", name := "inflateIfNeededFor", desc := "(Ljava/lang/String;)V" } : Jvm.MethodName)) ∈ lw_all := lw_g (lw_at lw_m4 15 rfl) rfl
theorem q865 : (Jvm.Cond.code ({ cls := "java/lang/AbstractStringBuilder", name := "inflateIfNeededFor", desc := "(Ljava/lang/String;)V" } : Jvm.MethodName) prog_18_method_71_code (2 : Nat) (Option.none : Option Jvm.ClassFile.FieldType)) ∈ lw_all := lw_g (lw_at lw_m4 16 rfl) rfl
theorem q866 : (Jvm.Cond.methodLink "java/lang/AbstractStringBuilder" (40 : Nat) ({ cls := "java/lang/String", name := "coder", desc := "()B" } : Jvm.MethodName)) ∈ lw_all := lw_g (lw_at lw_m4 17 rfl) rfl
theorem q867 : (Jvm.Cond.methodLink "java/lang/AbstractStringBuilder" (399 : Nat) ({ cls := "java/lang/String", name := "getBytes", desc := "([BIB)V" } : Jvm.MethodName)) ∈ lw_all := lw_g (lw_at lw_m4 18 rfl) rfl
theorem q2135 : (Jvm.Cond.sameMethod "java/lang/AbstractStringBuilder" "java/lang/AbstractStringBuilder" "length" "()I") ∈ lw_all := lw_g (lw_at lw_m9 86 rfl) rfl
theorem q2136 : (Jvm.Cond.sameMethod "java/lang/AbstractStringBuilder" "java/lang/AbstractStringBuilder" "append" "(C)Ljava/lang/AbstractStringBuilder;") ∈ lw_all := lw_g (lw_at lw_m9 87 rfl) rfl
theorem q2137 : (Jvm.Cond.sameMethod "java/lang/AbstractStringBuilder" "java/lang/AbstractStringBuilder" "ensureCapacityInternal" "(I)V") ∈ lw_all := lw_g (lw_at lw_m9 88 rfl) rfl
theorem q2138 : (Jvm.Cond.sameMethod "java/lang/AbstractStringBuilder" "java/lang/AbstractStringBuilder" "newCapacity" "(I)I") ∈ lw_all := lw_g (lw_at lw_m9 89 rfl) rfl
theorem q2139 : (Jvm.Cond.sameMethod "java/lang/AbstractStringBuilder" "java/lang/AbstractStringBuilder" "inflate" "()V") ∈ lw_all := lw_g (lw_at lw_m9 90 rfl) rfl
theorem q2141 : (Jvm.Cond.sameMethod "java/lang/AbstractStringBuilder" "java/lang/AbstractStringBuilder" "append" "(I)Ljava/lang/AbstractStringBuilder;") ∈ lw_all := lw_g (lw_at lw_m9 92 rfl) rfl
theorem q2142 : (Jvm.Cond.sameMethod "java/lang/AbstractStringBuilder" "java/lang/AbstractStringBuilder" "append" "(Ljava/lang/String;)Ljava/lang/AbstractStringBuilder;") ∈ lw_all := lw_g (lw_at lw_m9 93 rfl) rfl
theorem q2143 : (Jvm.Cond.sameMethod "java/lang/AbstractStringBuilder" "java/lang/AbstractStringBuilder" "appendNull" "()Ljava/lang/AbstractStringBuilder;") ∈ lw_all := lw_g (lw_at lw_m9 94 rfl) rfl
theorem q2144 : (Jvm.Cond.sameMethod "java/lang/AbstractStringBuilder" "java/lang/AbstractStringBuilder" "putStringAt" "(ILjava/lang/String;)V") ∈ lw_all := lw_g (lw_at lw_m9 95 rfl) rfl
theorem q2145 : (Jvm.Cond.sameMethod "java/lang/AbstractStringBuilder" "java/lang/AbstractStringBuilder" "inflateIfNeededFor" "(Ljava/lang/String;)V") ∈ lw_all := lw_g (lw_at lw_m9 96 rfl) rfl
def RJ6 : String := "java/lang/StringBuilder"
def TJ6 : u_T := fun k => match k with
  | 0 => ("java/lang/AbstractStringBuilder", "value", "[B", false)
  | 1 => ("java/lang/AbstractStringBuilder", "coder", "B", false)
  | 2 => ("java/lang/AbstractStringBuilder", "maybeLatin1", "Z", false)
  | _ => ("java/lang/AbstractStringBuilder", "count", "I", false)
def tyJ6 : Nat → FieldType := fun k => match k with
  | 0 => .array .byte
  | 1 => .byte
  | 2 => .boolean
  | _ => .int
abbrev wsJ60 : List Cond := u_ws RJ6 TJ6 4
theorem nmJ6 : ∀ a, a < 4 → ∀ b, b < 4 → a ≠ b → (TJ6 a).2.1 ≠ (TJ6 b).2.1 := by decide +kernel
theorem tyJ6_ok : ∀ k, k < 4 → parseFieldDescriptor (TJ6 k).2.2.1 = some (tyJ6 k) := by decide +kernel
abbrev cJ6_init : ByteArray := prog_36_method_2_code
def yJ6_init : MethodName := ⟨RJ6, "<init>", "(I)V"⟩
abbrev cJ6_length : ByteArray := prog_36_method_93_code
def yJ6_length : MethodName := ⟨RJ6, "length", "()I"⟩
abbrev cJ6_append : ByteArray := prog_36_method_14_code
def yJ6_append : MethodName := ⟨RJ6, "append", "(C)Ljava/lang/StringBuilder;"⟩
abbrev cJ6_toString : ByteArray := prog_36_method_42_code
def yJ6_toString : MethodName := ⟨RJ6, "toString", "()Ljava/lang/String;"⟩
abbrev cJ6_init_2 : ByteArray := prog_36_method_1_code
def yJ6_init_2 : MethodName := ⟨RJ6, "<init>", "()V"⟩
abbrev cJ6_append_2 : ByteArray := prog_36_method_15_code
def yJ6_append_2 : MethodName := ⟨RJ6, "append", "(I)Ljava/lang/StringBuilder;"⟩
abbrev cJ6_append_3 : ByteArray := prog_36_method_7_code
def yJ6_append_3 : MethodName := ⟨RJ6, "append", "(Ljava/lang/String;)Ljava/lang/StringBuilder;"⟩
theorem q145 : (Jvm.Cond.initialized "java/lang/StringBuilder") ∈ lw_all := lw_g (lw_at lw_m1 16 rfl) rfl
theorem q635 : (Jvm.Cond.instantiable "java/lang/StringBuilder" (4 : Nat)) ∈ lw_all := lw_g (lw_at lw_m3 26 rfl) rfl
theorem q637 : (Jvm.Cond.instanceMethod ({ cls := "java/lang/StringBuilder", name := "<init>", desc := "(I)V" } : Jvm.MethodName)) ∈ lw_all := lw_g (lw_at lw_m3 28 rfl) rfl
theorem q638 : (Jvm.Cond.code ({ cls := "java/lang/StringBuilder", name := "<init>", desc := "(I)V" } : Jvm.MethodName) prog_36_method_2_code (2 : Nat) (Option.none : Option Jvm.ClassFile.FieldType)) ∈ lw_all := lw_g (lw_at lw_m3 29 rfl) rfl
theorem q639 : (Jvm.Cond.methodLink "java/lang/StringBuilder" (1 : Nat) ({ cls := "java/lang/AbstractStringBuilder", name := "<init>", desc := "(I)V" } : Jvm.MethodName)) ∈ lw_all := lw_g (lw_at lw_m3 30 rfl) rfl
theorem q656 : (Jvm.Cond.lays "java/lang/StringBuilder" "java/lang/AbstractStringBuilder" "value" "[B") ∈ lw_all := lw_g (lw_at lw_m3 47 rfl) rfl
theorem q658 : (Jvm.Cond.lays "java/lang/StringBuilder" "java/lang/AbstractStringBuilder" "coder" "B") ∈ lw_all := lw_g (lw_at lw_m3 49 rfl) rfl
theorem q660 : (Jvm.Cond.lays "java/lang/StringBuilder" "java/lang/AbstractStringBuilder" "maybeLatin1" "Z") ∈ lw_all := lw_g (lw_at lw_m3 51 rfl) rfl
theorem q662 : (Jvm.Cond.lays "java/lang/StringBuilder" "java/lang/AbstractStringBuilder" "count" "I") ∈ lw_all := lw_g (lw_at lw_m3 53 rfl) rfl
theorem q664 : (Jvm.Cond.superclass "java/lang/StringBuilder" "java/lang/AbstractStringBuilder") ∈ lw_all := lw_g (lw_at lw_m3 55 rfl) rfl
theorem q666 : (Jvm.Cond.instanceMethod ({ cls := "java/lang/StringBuilder", name := "length", desc := "()I" } : Jvm.MethodName)) ∈ lw_all := lw_g (lw_at lw_m3 57 rfl) rfl
theorem q667 : (Jvm.Cond.selects "java/lang/StringBuilder" ({ cls := "java/lang/StringBuilder", name := "length", desc := "()I" } : Jvm.MethodName) ({ cls := "java/lang/StringBuilder", name := "length", desc := "()I" } : Jvm.MethodName)) ∈ lw_all := lw_g (lw_at lw_m3 58 rfl) rfl
theorem q668 : (Jvm.Cond.code ({ cls := "java/lang/StringBuilder", name := "length", desc := "()I" } : Jvm.MethodName) prog_36_method_93_code (1 : Nat) (Option.some Jvm.ClassFile.FieldType.int)) ∈ lw_all := lw_g (lw_at lw_m3 59 rfl) rfl
theorem q669 : (Jvm.Cond.methodLink "java/lang/StringBuilder" (343 : Nat) ({ cls := "java/lang/AbstractStringBuilder", name := "length", desc := "()I" } : Jvm.MethodName)) ∈ lw_all := lw_g (lw_at lw_m3 60 rfl) rfl
theorem q673 : (Jvm.Cond.instanceMethod ({ cls := "java/lang/StringBuilder", name := "append", desc := "(C)Ljava/lang/StringBuilder;" } : Jvm.MethodName)) ∈ lw_all := lw_g (lw_at lw_m3 64 rfl) rfl
theorem q674 : (Jvm.Cond.selects "java/lang/StringBuilder" ({ cls := "java/lang/StringBuilder", name := "append", desc := "(C)Ljava/lang/StringBuilder;" } : Jvm.MethodName) ({ cls := "java/lang/StringBuilder", name := "append", desc := "(C)Ljava/lang/StringBuilder;" } : Jvm.MethodName)) ∈ lw_all := lw_g (lw_at lw_m3 65 rfl) rfl
theorem q675 : (Jvm.Cond.code ({ cls := "java/lang/StringBuilder", name := "append", desc := "(C)Ljava/lang/StringBuilder;" } : Jvm.MethodName) prog_36_method_14_code (2 : Nat) (Option.some (Jvm.ClassFile.FieldType.object "java/lang/StringBuilder"))) ∈ lw_all := lw_g (lw_at lw_m3 66 rfl) rfl
theorem q676 : (Jvm.Cond.methodLink "java/lang/StringBuilder" (50 : Nat) ({ cls := "java/lang/AbstractStringBuilder", name := "append", desc := "(C)Ljava/lang/AbstractStringBuilder;" } : Jvm.MethodName)) ∈ lw_all := lw_g (lw_at lw_m3 67 rfl) rfl
theorem q717 : (Jvm.Cond.selects "java/lang/StringBuilder" ({ cls := "java/lang/AbstractStringBuilder", name := "isLatin1", desc := "()Z" } : Jvm.MethodName) ({ cls := "java/lang/AbstractStringBuilder", name := "isLatin1", desc := "()Z" } : Jvm.MethodName)) ∈ lw_all := lw_g (lw_at lw_m3 108 rfl) rfl
theorem q768 : (Jvm.Cond.instanceMethod ({ cls := "java/lang/StringBuilder", name := "toString", desc := "()Ljava/lang/String;" } : Jvm.MethodName)) ∈ lw_all := lw_g (lw_at lw_m3 159 rfl) rfl
theorem q769 : (Jvm.Cond.selects "java/lang/StringBuilder" ({ cls := "java/lang/StringBuilder", name := "toString", desc := "()Ljava/lang/String;" } : Jvm.MethodName) ({ cls := "java/lang/StringBuilder", name := "toString", desc := "()Ljava/lang/String;" } : Jvm.MethodName)) ∈ lw_all := lw_g (lw_at lw_m3 160 rfl) rfl
theorem q770 : (Jvm.Cond.code ({ cls := "java/lang/StringBuilder", name := "toString", desc := "()Ljava/lang/String;" } : Jvm.MethodName) prog_36_method_42_code (1 : Nat) (Option.some (Jvm.ClassFile.FieldType.object "java/lang/String"))) ∈ lw_all := lw_g (lw_at lw_m3 161 rfl) rfl
theorem q771 : (Jvm.Cond.classLink "java/lang/StringBuilder" (18 : Nat) "java/lang/String") ∈ lw_all := lw_g (lw_at lw_m3 162 rfl) rfl
theorem q772 : (Jvm.Cond.methodLink "java/lang/StringBuilder" (137 : Nat) ({ cls := "java/lang/String", name := "<init>", desc := "(Ljava/lang/StringBuilder;)V" } : Jvm.MethodName)) ∈ lw_all := lw_g (lw_at lw_m3 163 rfl) rfl
theorem q782 : (Jvm.Cond.selects "java/lang/StringBuilder" ({ cls := "java/lang/AbstractStringBuilder", name := "getValue", desc := "()[B" } : Jvm.MethodName) ({ cls := "java/lang/AbstractStringBuilder", name := "getValue", desc := "()[B" } : Jvm.MethodName)) ∈ lw_all := lw_g (lw_at lw_m3 173 rfl) rfl
theorem q798 : (Jvm.Cond.instanceMethod ({ cls := "java/lang/StringBuilder", name := "<init>", desc := "()V" } : Jvm.MethodName)) ∈ lw_all := lw_g (lw_at lw_m3 189 rfl) rfl
theorem q799 : (Jvm.Cond.code ({ cls := "java/lang/StringBuilder", name := "<init>", desc := "()V" } : Jvm.MethodName) prog_36_method_1_code (1 : Nat) (Option.none : Option Jvm.ClassFile.FieldType)) ∈ lw_all := lw_g (lw_at lw_m3 190 rfl) rfl
theorem q801 : (Jvm.Cond.instanceMethod ({ cls := "java/lang/StringBuilder", name := "append", desc := "(I)Ljava/lang/StringBuilder;" } : Jvm.MethodName)) ∈ lw_all := lw_g (lw_at lw_m3 192 rfl) rfl
theorem q802 : (Jvm.Cond.selects "java/lang/StringBuilder" ({ cls := "java/lang/StringBuilder", name := "append", desc := "(I)Ljava/lang/StringBuilder;" } : Jvm.MethodName) ({ cls := "java/lang/StringBuilder", name := "append", desc := "(I)Ljava/lang/StringBuilder;" } : Jvm.MethodName)) ∈ lw_all := lw_g (lw_at lw_m3 193 rfl) rfl
theorem q803 : (Jvm.Cond.code ({ cls := "java/lang/StringBuilder", name := "append", desc := "(I)Ljava/lang/StringBuilder;" } : Jvm.MethodName) prog_36_method_15_code (2 : Nat) (Option.some (Jvm.ClassFile.FieldType.object "java/lang/StringBuilder"))) ∈ lw_all := lw_g (lw_at lw_m3 194 rfl) rfl
theorem q804 : (Jvm.Cond.methodLink "java/lang/StringBuilder" (53 : Nat) ({ cls := "java/lang/AbstractStringBuilder", name := "append", desc := "(I)Ljava/lang/AbstractStringBuilder;" } : Jvm.MethodName)) ∈ lw_all := lw_g (lw_at lw_m3 195 rfl) rfl
theorem q836 : (Jvm.Cond.instanceMethod ({ cls := "java/lang/StringBuilder", name := "append", desc := "(Ljava/lang/String;)Ljava/lang/StringBuilder;" } : Jvm.MethodName)) ∈ lw_all := lw_g (lw_at lw_m3 227 rfl) rfl
theorem q837 : (Jvm.Cond.selects "java/lang/StringBuilder" ({ cls := "java/lang/StringBuilder", name := "append", desc := "(Ljava/lang/String;)Ljava/lang/StringBuilder;" } : Jvm.MethodName) ({ cls := "java/lang/StringBuilder", name := "append", desc := "(Ljava/lang/String;)Ljava/lang/StringBuilder;" } : Jvm.MethodName)) ∈ lw_all := lw_g (lw_at lw_m3 228 rfl) rfl
theorem q838 : (Jvm.Cond.code ({ cls := "java/lang/StringBuilder", name := "append", desc := "(Ljava/lang/String;)Ljava/lang/StringBuilder;" } : Jvm.MethodName) prog_36_method_7_code (2 : Nat) (Option.some (Jvm.ClassFile.FieldType.object "java/lang/StringBuilder"))) ∈ lw_all := lw_g (lw_at lw_m3 229 rfl) rfl
theorem q839 : (Jvm.Cond.methodLink "java/lang/StringBuilder" (29 : Nat) ({ cls := "java/lang/AbstractStringBuilder", name := "append", desc := "(Ljava/lang/String;)Ljava/lang/AbstractStringBuilder;" } : Jvm.MethodName)) ∈ lw_all := lw_g (lw_at lw_m3 230 rfl) rfl
theorem q2140 : (Jvm.Cond.selects "java/lang/StringBuilder" ({ cls := "java/lang/AbstractStringBuilder", name := "length", desc := "()I" } : Jvm.MethodName) ({ cls := "java/lang/StringBuilder", name := "length", desc := "()I" } : Jvm.MethodName)) ∈ lw_all := lw_g (lw_at lw_m9 91 rfl) rfl
theorem q2155 : (Jvm.Cond.castable "java/lang/StringBuilder" "java/lang/Object") ∈ lw_tbl := lw_at lw_m9 106 rfl
theorem in_J6 : ∀ w ∈ wsJ60, w ∈ lw_all := lw_in wsJ60 [656, 658, 660, 662] (by decide +kernel) (by decide +kernel)
def RJ7 : String := "java/lang/String"
def TJ7 : u_T := fun k => match k with
  | 0 => ("java/lang/String", "value", "[B", true)
  | 1 => ("java/lang/String", "coder", "B", true)
  | 2 => ("java/lang/String", "hash", "I", false)
  | _ => ("java/lang/String", "hashIsZero", "Z", false)
def tyJ7 : Nat → FieldType := fun k => match k with
  | 0 => .array .byte
  | 1 => .byte
  | 2 => .int
  | _ => .boolean
abbrev wsJ70 : List Cond := u_ws RJ7 TJ7 4
theorem nmJ7 : ∀ a, a < 4 → ∀ b, b < 4 → a ≠ b → (TJ7 a).2.1 ≠ (TJ7 b).2.1 := by decide +kernel
theorem tyJ7_ok : ∀ k, k < 4 → parseFieldDescriptor (TJ7 k).2.2.1 = some (tyJ7 k) := by decide +kernel
abbrev cJ7_checkBoundsOffCount : ByteArray := prog_35_method_157_code
def yJ7_checkBoundsOffCount : MethodName := ⟨RJ7, "checkBoundsOffCount", "(III)I"⟩
abbrev cJ7_checkIndex : ByteArray := prog_35_method_155_code
def yJ7_checkIndex : MethodName := ⟨RJ7, "checkIndex", "(II)V"⟩
abbrev cJ7_init : ByteArray := prog_35_method_53_code
def yJ7_init : MethodName := ⟨RJ7, "<init>", "(Ljava/lang/StringBuilder;)V"⟩
abbrev cJ7_init_2 : ByteArray := prog_35_method_150_code
def yJ7_init_2 : MethodName := ⟨RJ7, "<init>", "(Ljava/lang/AbstractStringBuilder;Ljava/lang/Void;)V"⟩
abbrev cJ7_checkBoundsBeginEnd : ByteArray := prog_35_method_158_code
def yJ7_checkBoundsBeginEnd : MethodName := ⟨RJ7, "checkBoundsBeginEnd", "(III)V"⟩
abbrev cJ7_length : ByteArray := prog_35_method_54_code
def yJ7_length : MethodName := ⟨RJ7, "length", "()I"⟩
abbrev cJ7_coder : ByteArray := prog_35_method_152_code
def yJ7_coder : MethodName := ⟨RJ7, "coder", "()B"⟩
abbrev cJ7_getBytes : ByteArray := prog_35_method_147_code
def yJ7_getBytes : MethodName := ⟨RJ7, "getBytes", "([BIB)V"⟩
abbrev cJ7_equals : ByteArray := prog_35_method_66_code
def yJ7_equals : MethodName := ⟨RJ7, "equals", "(Ljava/lang/Object;)Z"⟩
abbrev cJ7_hashCode : ByteArray := prog_35_method_78_code
def yJ7_hashCode : MethodName := ⟨RJ7, "hashCode", "()I"⟩
abbrev cJ7_isLatin1 : ByteArray := prog_35_method_154_code
def yJ7_isLatin1 : MethodName := ⟨RJ7, "isLatin1", "()Z"⟩
abbrev cJ7_charAt : ByteArray := prog_35_method_56_code
def yJ7_charAt : MethodName := ⟨RJ7, "charAt", "(I)C"⟩
theorem q146 : (Jvm.Cond.initialized "java/lang/String") ∈ lw_all := lw_g (lw_at lw_m1 17 rfl) rfl
theorem q561 : (Jvm.Cond.instantiable "java/lang/String" (4 : Nat)) ∈ lw_all := lw_g (lw_at lw_m2 192 rfl) rfl
theorem q562 : (Jvm.Cond.laysFinal "java/lang/String" "java/lang/String" "value" "[B") ∈ lw_all := lw_g (lw_at lw_m2 193 rfl) rfl
theorem q563 : (Jvm.Cond.soleField "java/lang/String" "value") ∈ lw_all := lw_g (lw_at lw_m2 194 rfl) rfl
theorem q564 : (Jvm.Cond.laysFinal "java/lang/String" "java/lang/String" "coder" "B") ∈ lw_all := lw_g (lw_at lw_m2 195 rfl) rfl
theorem q565 : (Jvm.Cond.soleField "java/lang/String" "coder") ∈ lw_all := lw_g (lw_at lw_m2 196 rfl) rfl
theorem q644 : (Jvm.Cond.laysStatic "java/lang/String" "COMPACT_STRINGS" "Z") ∈ lw_tbl := lw_at lw_m3 35 rfl
theorem q654 : (Jvm.Cond.fieldLink "java/lang/String" (1048 : Nat) "java/lang/AbstractStringBuilder" "maybeLatin1" "Z") ∈ lw_all := lw_g (lw_at lw_m3 45 rfl) rfl
theorem q739 : (Jvm.Cond.static ({ cls := "java/lang/String", name := "checkBoundsOffCount", desc := "(III)I" } : Jvm.MethodName)) ∈ lw_all := lw_g (lw_at lw_m3 130 rfl) rfl
theorem q740 : (Jvm.Cond.code ({ cls := "java/lang/String", name := "checkBoundsOffCount", desc := "(III)I" } : Jvm.MethodName) prog_35_method_157_code (3 : Nat) (Option.some Jvm.ClassFile.FieldType.int)) ∈ lw_all := lw_g (lw_at lw_m3 131 rfl) rfl
theorem q741 : (Jvm.Cond.fieldLink "java/lang/String" (1053 : Nat) "jdk/internal/util/Preconditions" "SIOOBE_FORMATTER" "Ljava/util/function/BiFunction;") ∈ lw_all := lw_g (lw_at lw_m3 132 rfl) rfl
theorem q743 : (Jvm.Cond.methodLink "java/lang/String" (1065 : Nat) ({ cls := "jdk/internal/util/Preconditions", name := "checkFromIndexSize", desc := "(IIILjava/util/function/BiFunction;)I" } : Jvm.MethodName)) ∈ lw_all := lw_g (lw_at lw_m3 134 rfl) rfl
theorem q762 : (Jvm.Cond.static ({ cls := "java/lang/String", name := "checkIndex", desc := "(II)V" } : Jvm.MethodName)) ∈ lw_all := lw_g (lw_at lw_m3 153 rfl) rfl
theorem q763 : (Jvm.Cond.code ({ cls := "java/lang/String", name := "checkIndex", desc := "(II)V" } : Jvm.MethodName) prog_35_method_155_code (2 : Nat) (Option.none : Option Jvm.ClassFile.FieldType)) ∈ lw_all := lw_g (lw_at lw_m3 154 rfl) rfl
theorem q764 : (Jvm.Cond.methodLink "java/lang/String" (1059 : Nat) ({ cls := "jdk/internal/util/Preconditions", name := "checkIndex", desc := "(IILjava/util/function/BiFunction;)I" } : Jvm.MethodName)) ∈ lw_all := lw_g (lw_at lw_m3 155 rfl) rfl
theorem q773 : (Jvm.Cond.instanceMethod ({ cls := "java/lang/String", name := "<init>", desc := "(Ljava/lang/StringBuilder;)V" } : Jvm.MethodName)) ∈ lw_all := lw_g (lw_at lw_m3 164 rfl) rfl
theorem q774 : (Jvm.Cond.code ({ cls := "java/lang/String", name := "<init>", desc := "(Ljava/lang/StringBuilder;)V" } : Jvm.MethodName) prog_35_method_53_code (2 : Nat) (Option.none : Option Jvm.ClassFile.FieldType)) ∈ lw_all := lw_g (lw_at lw_m3 165 rfl) rfl
theorem q775 : (Jvm.Cond.methodLink "java/lang/String" (489 : Nat) ({ cls := "java/lang/String", name := "<init>", desc := "(Ljava/lang/AbstractStringBuilder;Ljava/lang/Void;)V" } : Jvm.MethodName)) ∈ lw_all := lw_g (lw_at lw_m3 166 rfl) rfl
theorem q776 : (Jvm.Cond.instanceMethod ({ cls := "java/lang/String", name := "<init>", desc := "(Ljava/lang/AbstractStringBuilder;Ljava/lang/Void;)V" } : Jvm.MethodName)) ∈ lw_all := lw_g (lw_at lw_m3 167 rfl) rfl
theorem q777 : (Jvm.Cond.code ({ cls := "java/lang/String", name := "<init>", desc := "(Ljava/lang/AbstractStringBuilder;Ljava/lang/Void;)V" } : Jvm.MethodName) prog_35_method_150_code (5 : Nat) (Option.none : Option Jvm.ClassFile.FieldType)) ∈ lw_all := lw_g (lw_at lw_m3 168 rfl) rfl
theorem q778 : (Jvm.Cond.methodLink "java/lang/String" (1 : Nat) ({ cls := "java/lang/Object", name := "<init>", desc := "()V" } : Jvm.MethodName)) ∈ lw_all := lw_g (lw_at lw_m3 169 rfl) rfl
theorem q779 : (Jvm.Cond.methodLink "java/lang/String" (552 : Nat) ({ cls := "java/lang/AbstractStringBuilder", name := "getValue", desc := "()[B" } : Jvm.MethodName)) ∈ lw_all := lw_g (lw_at lw_m3 170 rfl) rfl
theorem q784 : (Jvm.Cond.methodLink "java/lang/String" (549 : Nat) ({ cls := "java/lang/AbstractStringBuilder", name := "length", desc := "()I" } : Jvm.MethodName)) ∈ lw_all := lw_g (lw_at lw_m3 175 rfl) rfl
theorem q785 : (Jvm.Cond.methodLink "java/lang/String" (1047 : Nat) ({ cls := "java/lang/AbstractStringBuilder", name := "isLatin1", desc := "()Z" } : Jvm.MethodName)) ∈ lw_all := lw_g (lw_at lw_m3 176 rfl) rfl
theorem q786 : (Jvm.Cond.methodLink "java/lang/String" (54 : Nat) ({ cls := "java/util/Arrays", name := "copyOfRange", desc := "([BII)[B" } : Jvm.MethodName)) ∈ lw_all := lw_g (lw_at lw_m3 177 rfl) rfl
theorem q824 : (Jvm.Cond.static ({ cls := "java/lang/String", name := "checkBoundsBeginEnd", desc := "(III)V" } : Jvm.MethodName)) ∈ lw_all := lw_g (lw_at lw_m3 215 rfl) rfl
theorem q825 : (Jvm.Cond.code ({ cls := "java/lang/String", name := "checkBoundsBeginEnd", desc := "(III)V" } : Jvm.MethodName) prog_35_method_158_code (3 : Nat) (Option.none : Option Jvm.ClassFile.FieldType)) ∈ lw_all := lw_g (lw_at lw_m3 216 rfl) rfl
theorem q826 : (Jvm.Cond.methodLink "java/lang/String" (1062 : Nat) ({ cls := "jdk/internal/util/Preconditions", name := "checkFromToIndex", desc := "(IIILjava/util/function/BiFunction;)I" } : Jvm.MethodName)) ∈ lw_all := lw_g (lw_at lw_m3 217 rfl) rfl
theorem q850 : (Jvm.Cond.instanceMethod ({ cls := "java/lang/String", name := "length", desc := "()I" } : Jvm.MethodName)) ∈ lw_all := lw_g (lw_at lw_m4 1 rfl) rfl
theorem q851 : (Jvm.Cond.selects "java/lang/String" ({ cls := "java/lang/String", name := "length", desc := "()I" } : Jvm.MethodName) ({ cls := "java/lang/String", name := "length", desc := "()I" } : Jvm.MethodName)) ∈ lw_all := lw_g (lw_at lw_m4 2 rfl) rfl
theorem q852 : (Jvm.Cond.code ({ cls := "java/lang/String", name := "length", desc := "()I" } : Jvm.MethodName) prog_35_method_54_code (1 : Nat) (Option.some Jvm.ClassFile.FieldType.int)) ∈ lw_all := lw_g (lw_at lw_m4 3 rfl) rfl
theorem q853 : (Jvm.Cond.methodLink "java/lang/String" (335 : Nat) ({ cls := "java/lang/String", name := "coder", desc := "()B" } : Jvm.MethodName)) ∈ lw_all := lw_g (lw_at lw_m4 4 rfl) rfl
theorem q854 : (Jvm.Cond.instanceMethod ({ cls := "java/lang/String", name := "coder", desc := "()B" } : Jvm.MethodName)) ∈ lw_all := lw_g (lw_at lw_m4 5 rfl) rfl
theorem q855 : (Jvm.Cond.selects "java/lang/String" ({ cls := "java/lang/String", name := "coder", desc := "()B" } : Jvm.MethodName) ({ cls := "java/lang/String", name := "coder", desc := "()B" } : Jvm.MethodName)) ∈ lw_all := lw_g (lw_at lw_m4 6 rfl) rfl
theorem q856 : (Jvm.Cond.code ({ cls := "java/lang/String", name := "coder", desc := "()B" } : Jvm.MethodName) prog_35_method_152_code (1 : Nat) (Option.some Jvm.ClassFile.FieldType.byte)) ∈ lw_all := lw_g (lw_at lw_m4 7 rfl) rfl
theorem q857 : (Jvm.Cond.fieldLink "java/lang/String" (38 : Nat) "java/lang/String" "COMPACT_STRINGS" "Z") ∈ lw_all := lw_g (lw_at lw_m4 8 rfl) rfl
theorem q868 : (Jvm.Cond.instanceMethod ({ cls := "java/lang/String", name := "getBytes", desc := "([BIB)V" } : Jvm.MethodName)) ∈ lw_all := lw_g (lw_at lw_m4 19 rfl) rfl
theorem q869 : (Jvm.Cond.selects "java/lang/String" ({ cls := "java/lang/String", name := "getBytes", desc := "([BIB)V" } : Jvm.MethodName) ({ cls := "java/lang/String", name := "getBytes", desc := "([BIB)V" } : Jvm.MethodName)) ∈ lw_all := lw_g (lw_at lw_m4 20 rfl) rfl
theorem q870 : (Jvm.Cond.code ({ cls := "java/lang/String", name := "getBytes", desc := "([BIB)V" } : Jvm.MethodName) prog_35_method_147_code (4 : Nat) (Option.none : Option Jvm.ClassFile.FieldType)) ∈ lw_all := lw_g (lw_at lw_m4 21 rfl) rfl
theorem q871 : (Jvm.Cond.methodLink "java/lang/String" (212 : Nat) ({ cls := "java/lang/System", name := "arraycopy", desc := "(Ljava/lang/Object;ILjava/lang/Object;II)V" } : Jvm.MethodName)) ∈ lw_all := lw_g (lw_at lw_m4 22 rfl) rfl
theorem q872 : (Jvm.Cond.methodLink "java/lang/String" (106 : Nat) ({ cls := "java/lang/StringLatin1", name := "inflate", desc := "([BI[BII)V" } : Jvm.MethodName)) ∈ lw_all := lw_g (lw_at lw_m4 23 rfl) rfl
theorem q878 : (Jvm.Cond.methodLink "java/lang/String" (1051 : Nat) ({ cls := "java/lang/StringUTF16", name := "compress", desc := "([BII)[B" } : Jvm.MethodName)) ∈ lw_all := lw_g (lw_at lw_m4 29 rfl) rfl
theorem q888 : (Jvm.Cond.methodLink "java/lang/String" (47 : Nat) ({ cls := "java/lang/StringUTF16", name := "coderFromArrayLen", desc := "([BI)B" } : Jvm.MethodName)) ∈ lw_all := lw_g (lw_at lw_m4 39 rfl) rfl
theorem q891 : (Jvm.Cond.fieldLink "java/lang/String" (9 : Nat) "java/lang/String" "value" "[B") ∈ lw_all := lw_g (lw_at lw_m4 42 rfl) rfl
theorem q892 : (Jvm.Cond.fieldLink "java/lang/String" (15 : Nat) "java/lang/String" "coder" "B") ∈ lw_all := lw_g (lw_at lw_m4 43 rfl) rfl
theorem q893 : (Jvm.Cond.fieldLink "java/lang/String" (19 : Nat) "java/lang/String" "hash" "I") ∈ lw_all := lw_g (lw_at lw_m4 44 rfl) rfl
theorem q894 : (Jvm.Cond.fieldLink "java/lang/String" (23 : Nat) "java/lang/String" "hashIsZero" "Z") ∈ lw_all := lw_g (lw_at lw_m4 45 rfl) rfl
theorem q895 : (Jvm.Cond.lays "java/lang/String" "java/lang/String" "hash" "I") ∈ lw_all := lw_g (lw_at lw_m4 46 rfl) rfl
theorem q896 : (Jvm.Cond.soleField "java/lang/String" "hash") ∈ lw_all := lw_g (lw_at lw_m4 47 rfl) rfl
theorem q897 : (Jvm.Cond.lays "java/lang/String" "java/lang/String" "hashIsZero" "Z") ∈ lw_all := lw_g (lw_at lw_m4 48 rfl) rfl
theorem q898 : (Jvm.Cond.soleField "java/lang/String" "hashIsZero") ∈ lw_all := lw_g (lw_at lw_m4 49 rfl) rfl
theorem q899 : (Jvm.Cond.superclass "java/lang/String" "java/lang/Object") ∈ lw_all := lw_g (lw_at lw_m4 50 rfl) rfl
theorem q944 : (Jvm.Cond.instanceMethod ({ cls := "java/lang/String", name := "equals", desc := "(Ljava/lang/Object;)Z" } : Jvm.MethodName)) ∈ lw_all := lw_g (lw_at lw_m4 95 rfl) rfl
theorem q945 : (Jvm.Cond.selects "java/lang/String" ({ cls := "java/lang/String", name := "equals", desc := "(Ljava/lang/Object;)Z" } : Jvm.MethodName) ({ cls := "java/lang/String", name := "equals", desc := "(Ljava/lang/Object;)Z" } : Jvm.MethodName)) ∈ lw_all := lw_g (lw_at lw_m4 96 rfl) rfl
theorem q946 : (Jvm.Cond.code ({ cls := "java/lang/String", name := "equals", desc := "(Ljava/lang/Object;)Z" } : Jvm.MethodName) prog_35_method_66_code (3 : Nat) (Option.some Jvm.ClassFile.FieldType.boolean)) ∈ lw_all := lw_g (lw_at lw_m4 97 rfl) rfl
theorem q947 : (Jvm.Cond.classLink "java/lang/String" (10 : Nat) "java/lang/String") ∈ lw_all := lw_g (lw_at lw_m4 98 rfl) rfl
theorem q948 : (Jvm.Cond.methodLink "java/lang/String" (541 : Nat) ({ cls := "java/lang/StringLatin1", name := "equals", desc := "([B[B)Z" } : Jvm.MethodName)) ∈ lw_all := lw_g (lw_at lw_m4 99 rfl) rfl
theorem q996 : (Jvm.Cond.instanceMethod ({ cls := "java/lang/String", name := "hashCode", desc := "()I" } : Jvm.MethodName)) ∈ lw_all := lw_g (lw_at lw_m4 147 rfl) rfl
theorem q997 : (Jvm.Cond.selects "java/lang/String" ({ cls := "java/lang/String", name := "hashCode", desc := "()I" } : Jvm.MethodName) ({ cls := "java/lang/String", name := "hashCode", desc := "()I" } : Jvm.MethodName)) ∈ lw_all := lw_g (lw_at lw_m4 148 rfl) rfl
theorem q998 : (Jvm.Cond.code ({ cls := "java/lang/String", name := "hashCode", desc := "()I" } : Jvm.MethodName) prog_35_method_78_code (2 : Nat) (Option.some Jvm.ClassFile.FieldType.int)) ∈ lw_all := lw_g (lw_at lw_m4 149 rfl) rfl
theorem q999 : (Jvm.Cond.methodLink "java/lang/String" (492 : Nat) ({ cls := "java/lang/String", name := "isLatin1", desc := "()Z" } : Jvm.MethodName)) ∈ lw_all := lw_g (lw_at lw_m4 150 rfl) rfl
theorem q1000 : (Jvm.Cond.instanceMethod ({ cls := "java/lang/String", name := "isLatin1", desc := "()Z" } : Jvm.MethodName)) ∈ lw_all := lw_g (lw_at lw_m4 151 rfl) rfl
theorem q1001 : (Jvm.Cond.selects "java/lang/String" ({ cls := "java/lang/String", name := "isLatin1", desc := "()Z" } : Jvm.MethodName) ({ cls := "java/lang/String", name := "isLatin1", desc := "()Z" } : Jvm.MethodName)) ∈ lw_all := lw_g (lw_at lw_m4 152 rfl) rfl
theorem q1002 : (Jvm.Cond.code ({ cls := "java/lang/String", name := "isLatin1", desc := "()Z" } : Jvm.MethodName) prog_35_method_154_code (1 : Nat) (Option.some Jvm.ClassFile.FieldType.boolean)) ∈ lw_all := lw_g (lw_at lw_m4 153 rfl) rfl
theorem q1003 : (Jvm.Cond.methodLink "java/lang/String" (628 : Nat) ({ cls := "java/lang/StringLatin1", name := "hashCode", desc := "([B)I" } : Jvm.MethodName)) ∈ lw_all := lw_g (lw_at lw_m4 154 rfl) rfl
theorem q1052 : (Jvm.Cond.methodLink "java/lang/String" (632 : Nat) ({ cls := "java/lang/StringUTF16", name := "hashCode", desc := "([B)I" } : Jvm.MethodName)) ∈ lw_all := lw_g (lw_at lw_m4 203 rfl) rfl
theorem q1767 : (Jvm.Cond.instanceMethod ({ cls := "java/lang/String", name := "charAt", desc := "(I)C" } : Jvm.MethodName)) ∈ lw_all := lw_g (lw_at lw_m7 198 rfl) rfl
theorem q1768 : (Jvm.Cond.selects "java/lang/String" ({ cls := "java/lang/String", name := "charAt", desc := "(I)C" } : Jvm.MethodName) ({ cls := "java/lang/String", name := "charAt", desc := "(I)C" } : Jvm.MethodName)) ∈ lw_all := lw_g (lw_at lw_m7 199 rfl) rfl
theorem q1769 : (Jvm.Cond.code ({ cls := "java/lang/String", name := "charAt", desc := "(I)C" } : Jvm.MethodName) prog_35_method_56_code (2 : Nat) (Option.some Jvm.ClassFile.FieldType.char)) ∈ lw_all := lw_g (lw_at lw_m7 200 rfl) rfl
theorem q1770 : (Jvm.Cond.methodLink "java/lang/String" (495 : Nat) ({ cls := "java/lang/StringLatin1", name := "charAt", desc := "([BI)C" } : Jvm.MethodName)) ∈ lw_all := lw_g (lw_at lw_m7 201 rfl) rfl
theorem q1774 : (Jvm.Cond.methodLink "java/lang/String" (498 : Nat) ({ cls := "java/lang/StringUTF16", name := "charAt", desc := "([BI)C" } : Jvm.MethodName)) ∈ lw_all := lw_g (lw_at lw_m7 205 rfl) rfl
theorem q2156 : (Jvm.Cond.castable "java/lang/String" "java/lang/Object") ∈ lw_tbl := lw_at lw_m9 107 rfl
theorem in_J7 : ∀ w ∈ wsJ70, w ∈ lw_all := lw_in wsJ70 [562, 564, 895, 897] (by decide +kernel) (by decide +kernel)
def RJ8 : String := "java/lang/StringUTF16"
abbrev cJ8_newBytesFor : ByteArray := prog_38_method_2_code
def yJ8_newBytesFor : MethodName := ⟨RJ8, "newBytesFor", "(I)[B"⟩
abbrev cJ8_newBytesLength : ByteArray := prog_38_method_3_code
def yJ8_newBytesLength : MethodName := ⟨RJ8, "newBytesLength", "(I)I"⟩
abbrev cJ8_inflate : ByteArray := prog_38_method_86_code
def yJ8_inflate : MethodName := ⟨RJ8, "inflate", "([BI[BII)V"⟩
abbrev cJ8_checkBoundsOffCount : ByteArray := prog_38_method_94_code
def yJ8_checkBoundsOffCount : MethodName := ⟨RJ8, "checkBoundsOffCount", "(II[B)V"⟩
abbrev cJ8_length : ByteArray := prog_38_method_6_code
def yJ8_length : MethodName := ⟨RJ8, "length", "([B)I"⟩
abbrev cJ8_putChar : ByteArray := prog_38_method_4_code
def yJ8_putChar : MethodName := ⟨RJ8, "putChar", "([BII)V"⟩
abbrev cJ8_putCharSB : ByteArray := prog_38_method_71_code
def yJ8_putCharSB : MethodName := ⟨RJ8, "putCharSB", "([BII)V"⟩
abbrev cJ8_checkIndex : ByteArray := prog_38_method_91_code
def yJ8_checkIndex : MethodName := ⟨RJ8, "checkIndex", "(I[B)V"⟩
abbrev cJ8_getChars : ByteArray := prog_38_method_77_code
def yJ8_getChars : MethodName := ⟨RJ8, "getChars", "(III[B)I"⟩
abbrev cJ8_checkBoundsBeginEnd : ByteArray := prog_38_method_93_code
def yJ8_checkBoundsBeginEnd : MethodName := ⟨RJ8, "checkBoundsBeginEnd", "(II[B)V"⟩
abbrev cJ8_getChars_2 : ByteArray := prog_38_method_89_code
def yJ8_getChars_2 : MethodName := ⟨RJ8, "getChars", "(II[B)I"⟩
abbrev cJ8_putCharsAt : ByteArray := prog_38_method_81_code
def yJ8_putCharsAt : MethodName := ⟨RJ8, "putCharsAt", "([BICCCC)I"⟩
abbrev cJ8_compress : ByteArray := prog_38_method_17_code
def yJ8_compress : MethodName := ⟨RJ8, "compress", "([BII)[B"⟩
abbrev cJ8_compress_2 : ByteArray := prog_38_method_22_code
def yJ8_compress_2 : MethodName := ⟨RJ8, "compress", "([BI[BII)I"⟩
abbrev cJ8_getChar : ByteArray := prog_38_method_5_code
def yJ8_getChar : MethodName := ⟨RJ8, "getChar", "([BI)C"⟩
abbrev cJ8_coderFromArrayLen : ByteArray := prog_38_method_15_code
def yJ8_coderFromArrayLen : MethodName := ⟨RJ8, "coderFromArrayLen", "([BI)B"⟩
abbrev cJ8_hashCode : ByteArray := prog_38_method_39_code
def yJ8_hashCode : MethodName := ⟨RJ8, "hashCode", "([B)I"⟩
abbrev cJ8_charAt : ByteArray := prog_38_method_83_code
def yJ8_charAt : MethodName := ⟨RJ8, "charAt", "([BI)C"⟩
theorem q147 : (Jvm.Cond.initialized "java/lang/StringUTF16") ∈ lw_all := lw_g (lw_at lw_m1 18 rfl) rfl
theorem q646 : (Jvm.Cond.static ({ cls := "java/lang/StringUTF16", name := "newBytesFor", desc := "(I)[B" } : Jvm.MethodName)) ∈ lw_all := lw_g (lw_at lw_m3 37 rfl) rfl
theorem q647 : (Jvm.Cond.code ({ cls := "java/lang/StringUTF16", name := "newBytesFor", desc := "(I)[B" } : Jvm.MethodName) prog_38_method_2_code (1 : Nat) (Option.some (Jvm.ClassFile.FieldType.array Jvm.ClassFile.FieldType.byte))) ∈ lw_all := lw_g (lw_at lw_m3 38 rfl) rfl
theorem q648 : (Jvm.Cond.methodLink "java/lang/StringUTF16" (11 : Nat) ({ cls := "java/lang/StringUTF16", name := "newBytesLength", desc := "(I)I" } : Jvm.MethodName)) ∈ lw_all := lw_g (lw_at lw_m3 39 rfl) rfl
theorem q649 : (Jvm.Cond.static ({ cls := "java/lang/StringUTF16", name := "newBytesLength", desc := "(I)I" } : Jvm.MethodName)) ∈ lw_all := lw_g (lw_at lw_m3 40 rfl) rfl
theorem q650 : (Jvm.Cond.code ({ cls := "java/lang/StringUTF16", name := "newBytesLength", desc := "(I)I" } : Jvm.MethodName) prog_38_method_3_code (1 : Nat) (Option.some Jvm.ClassFile.FieldType.int)) ∈ lw_all := lw_g (lw_at lw_m3 41 rfl) rfl
theorem q651 : (Jvm.Cond.constant "java/lang/StringUTF16" (20 : Nat) (1073741823 : Int32)) ∈ lw_all := lw_g (lw_at lw_m3 42 rfl) rfl
theorem q730 : (Jvm.Cond.static ({ cls := "java/lang/StringUTF16", name := "inflate", desc := "([BI[BII)V" } : Jvm.MethodName)) ∈ lw_all := lw_g (lw_at lw_m3 121 rfl) rfl
theorem q731 : (Jvm.Cond.code ({ cls := "java/lang/StringUTF16", name := "inflate", desc := "([BI[BII)V" } : Jvm.MethodName) prog_38_method_86_code (6 : Nat) (Option.none : Option Jvm.ClassFile.FieldType)) ∈ lw_all := lw_g (lw_at lw_m3 122 rfl) rfl
theorem q732 : (Jvm.Cond.methodLink "java/lang/StringUTF16" (173 : Nat) ({ cls := "java/lang/StringUTF16", name := "checkBoundsOffCount", desc := "(II[B)V" } : Jvm.MethodName)) ∈ lw_all := lw_g (lw_at lw_m3 123 rfl) rfl
theorem q733 : (Jvm.Cond.static ({ cls := "java/lang/StringUTF16", name := "checkBoundsOffCount", desc := "(II[B)V" } : Jvm.MethodName)) ∈ lw_all := lw_g (lw_at lw_m3 124 rfl) rfl
theorem q734 : (Jvm.Cond.code ({ cls := "java/lang/StringUTF16", name := "checkBoundsOffCount", desc := "(II[B)V" } : Jvm.MethodName) prog_38_method_94_code (3 : Nat) (Option.none : Option Jvm.ClassFile.FieldType)) ∈ lw_all := lw_g (lw_at lw_m3 125 rfl) rfl
theorem q735 : (Jvm.Cond.methodLink "java/lang/StringUTF16" (48 : Nat) ({ cls := "java/lang/StringUTF16", name := "length", desc := "([B)I" } : Jvm.MethodName)) ∈ lw_all := lw_g (lw_at lw_m3 126 rfl) rfl
theorem q736 : (Jvm.Cond.static ({ cls := "java/lang/StringUTF16", name := "length", desc := "([B)I" } : Jvm.MethodName)) ∈ lw_all := lw_g (lw_at lw_m3 127 rfl) rfl
theorem q737 : (Jvm.Cond.code ({ cls := "java/lang/StringUTF16", name := "length", desc := "([B)I" } : Jvm.MethodName) prog_38_method_6_code (1 : Nat) (Option.some Jvm.ClassFile.FieldType.int)) ∈ lw_all := lw_g (lw_at lw_m3 128 rfl) rfl
theorem q738 : (Jvm.Cond.methodLink "java/lang/StringUTF16" (419 : Nat) ({ cls := "java/lang/String", name := "checkBoundsOffCount", desc := "(III)I" } : Jvm.MethodName)) ∈ lw_all := lw_g (lw_at lw_m3 129 rfl) rfl
theorem q746 : (Jvm.Cond.methodLink "java/lang/StringUTF16" (111 : Nat) ({ cls := "java/lang/StringUTF16", name := "putChar", desc := "([BII)V" } : Jvm.MethodName)) ∈ lw_all := lw_g (lw_at lw_m3 137 rfl) rfl
theorem q747 : (Jvm.Cond.static ({ cls := "java/lang/StringUTF16", name := "putChar", desc := "([BII)V" } : Jvm.MethodName)) ∈ lw_all := lw_g (lw_at lw_m3 138 rfl) rfl
theorem q748 : (Jvm.Cond.code ({ cls := "java/lang/StringUTF16", name := "putChar", desc := "([BII)V" } : Jvm.MethodName) prog_38_method_4_code (3 : Nat) (Option.none : Option Jvm.ClassFile.FieldType)) ∈ lw_all := lw_g (lw_at lw_m3 139 rfl) rfl
theorem q749 : (Jvm.Cond.fieldLink "java/lang/StringUTF16" (44 : Nat) "java/lang/StringUTF16" "$assertionsDisabled" "Z") ∈ lw_all := lw_g (lw_at lw_m3 140 rfl) rfl
theorem q750 : (Jvm.Cond.laysStatic "java/lang/StringUTF16" "$assertionsDisabled" "Z") ∈ lw_tbl := lw_at lw_m3 141 rfl
theorem q751 : (Jvm.Cond.fieldLink "java/lang/StringUTF16" (59 : Nat) "java/lang/StringUTF16" "HI_BYTE_SHIFT" "I") ∈ lw_all := lw_g (lw_at lw_m3 142 rfl) rfl
theorem q752 : (Jvm.Cond.laysStatic "java/lang/StringUTF16" "HI_BYTE_SHIFT" "I") ∈ lw_tbl := lw_at lw_m3 143 rfl
theorem q753 : (Jvm.Cond.fieldLink "java/lang/StringUTF16" (63 : Nat) "java/lang/StringUTF16" "LO_BYTE_SHIFT" "I") ∈ lw_all := lw_g (lw_at lw_m3 144 rfl) rfl
theorem q754 : (Jvm.Cond.laysStatic "java/lang/StringUTF16" "LO_BYTE_SHIFT" "I") ∈ lw_tbl := lw_at lw_m3 145 rfl
theorem q756 : (Jvm.Cond.static ({ cls := "java/lang/StringUTF16", name := "putCharSB", desc := "([BII)V" } : Jvm.MethodName)) ∈ lw_all := lw_g (lw_at lw_m3 147 rfl) rfl
theorem q757 : (Jvm.Cond.code ({ cls := "java/lang/StringUTF16", name := "putCharSB", desc := "([BII)V" } : Jvm.MethodName) prog_38_method_71_code (3 : Nat) (Option.none : Option Jvm.ClassFile.FieldType)) ∈ lw_all := lw_g (lw_at lw_m3 148 rfl) rfl
theorem q758 : (Jvm.Cond.methodLink "java/lang/StringUTF16" (67 : Nat) ({ cls := "java/lang/StringUTF16", name := "checkIndex", desc := "(I[B)V" } : Jvm.MethodName)) ∈ lw_all := lw_g (lw_at lw_m3 149 rfl) rfl
theorem q759 : (Jvm.Cond.static ({ cls := "java/lang/StringUTF16", name := "checkIndex", desc := "(I[B)V" } : Jvm.MethodName)) ∈ lw_all := lw_g (lw_at lw_m3 150 rfl) rfl
theorem q760 : (Jvm.Cond.code ({ cls := "java/lang/StringUTF16", name := "checkIndex", desc := "(I[B)V" } : Jvm.MethodName) prog_38_method_91_code (2 : Nat) (Option.none : Option Jvm.ClassFile.FieldType)) ∈ lw_all := lw_g (lw_at lw_m3 151 rfl) rfl
theorem q761 : (Jvm.Cond.methodLink "java/lang/StringUTF16" (414 : Nat) ({ cls := "java/lang/String", name := "checkIndex", desc := "(II)V" } : Jvm.MethodName)) ∈ lw_all := lw_g (lw_at lw_m3 152 rfl) rfl
theorem q818 : (Jvm.Cond.static ({ cls := "java/lang/StringUTF16", name := "getChars", desc := "(III[B)I" } : Jvm.MethodName)) ∈ lw_all := lw_g (lw_at lw_m3 209 rfl) rfl
theorem q819 : (Jvm.Cond.code ({ cls := "java/lang/StringUTF16", name := "getChars", desc := "(III[B)I" } : Jvm.MethodName) prog_38_method_77_code (5 : Nat) (Option.some Jvm.ClassFile.FieldType.int)) ∈ lw_all := lw_g (lw_at lw_m3 210 rfl) rfl
theorem q820 : (Jvm.Cond.methodLink "java/lang/StringUTF16" (96 : Nat) ({ cls := "java/lang/StringUTF16", name := "checkBoundsBeginEnd", desc := "(II[B)V" } : Jvm.MethodName)) ∈ lw_all := lw_g (lw_at lw_m3 211 rfl) rfl
theorem q821 : (Jvm.Cond.static ({ cls := "java/lang/StringUTF16", name := "checkBoundsBeginEnd", desc := "(II[B)V" } : Jvm.MethodName)) ∈ lw_all := lw_g (lw_at lw_m3 212 rfl) rfl
theorem q822 : (Jvm.Cond.code ({ cls := "java/lang/StringUTF16", name := "checkBoundsBeginEnd", desc := "(II[B)V" } : Jvm.MethodName) prog_38_method_93_code (3 : Nat) (Option.none : Option Jvm.ClassFile.FieldType)) ∈ lw_all := lw_g (lw_at lw_m3 213 rfl) rfl
theorem q823 : (Jvm.Cond.methodLink "java/lang/StringUTF16" (241 : Nat) ({ cls := "java/lang/String", name := "checkBoundsBeginEnd", desc := "(III)V" } : Jvm.MethodName)) ∈ lw_all := lw_g (lw_at lw_m3 214 rfl) rfl
theorem q829 : (Jvm.Cond.methodLink "java/lang/StringUTF16" (393 : Nat) ({ cls := "java/lang/StringUTF16", name := "getChars", desc := "(II[B)I" } : Jvm.MethodName)) ∈ lw_all := lw_g (lw_at lw_m3 220 rfl) rfl
theorem q830 : (Jvm.Cond.static ({ cls := "java/lang/StringUTF16", name := "getChars", desc := "(II[B)I" } : Jvm.MethodName)) ∈ lw_all := lw_g (lw_at lw_m3 221 rfl) rfl
theorem q831 : (Jvm.Cond.code ({ cls := "java/lang/StringUTF16", name := "getChars", desc := "(II[B)I" } : Jvm.MethodName) prog_38_method_89_code (7 : Nat) (Option.some Jvm.ClassFile.FieldType.int)) ∈ lw_all := lw_g (lw_at lw_m3 222 rfl) rfl
theorem q832 : (Jvm.Cond.fieldLink "java/lang/StringUTF16" (403 : Nat) "java/lang/Integer" "DigitOnes" "[B") ∈ lw_all := lw_g (lw_at lw_m3 223 rfl) rfl
theorem q833 : (Jvm.Cond.fieldLink "java/lang/StringUTF16" (407 : Nat) "java/lang/Integer" "DigitTens" "[B") ∈ lw_all := lw_g (lw_at lw_m3 224 rfl) rfl
theorem q847 : (Jvm.Cond.static ({ cls := "java/lang/StringUTF16", name := "putCharsAt", desc := "([BICCCC)I" } : Jvm.MethodName)) ∈ lw_all := lw_g (lw_at lw_m3 238 rfl) rfl
theorem q848 : (Jvm.Cond.code ({ cls := "java/lang/StringUTF16", name := "putCharsAt", desc := "([BICCCC)I" } : Jvm.MethodName) prog_38_method_81_code (7 : Nat) (Option.some Jvm.ClassFile.FieldType.int)) ∈ lw_all := lw_g (lw_at lw_m3 239 rfl) rfl
theorem q879 : (Jvm.Cond.static ({ cls := "java/lang/StringUTF16", name := "compress", desc := "([BII)[B" } : Jvm.MethodName)) ∈ lw_all := lw_g (lw_at lw_m4 30 rfl) rfl
theorem q880 : (Jvm.Cond.code ({ cls := "java/lang/StringUTF16", name := "compress", desc := "([BII)[B" } : Jvm.MethodName) prog_38_method_17_code (6 : Nat) (Option.some (Jvm.ClassFile.FieldType.array Jvm.ClassFile.FieldType.byte))) ∈ lw_all := lw_g (lw_at lw_m4 31 rfl) rfl
theorem q881 : (Jvm.Cond.methodLink "java/lang/StringUTF16" (123 : Nat) ({ cls := "java/lang/StringUTF16", name := "compress", desc := "([BI[BII)I" } : Jvm.MethodName)) ∈ lw_all := lw_g (lw_at lw_m4 32 rfl) rfl
theorem q882 : (Jvm.Cond.static ({ cls := "java/lang/StringUTF16", name := "compress", desc := "([BI[BII)I" } : Jvm.MethodName)) ∈ lw_all := lw_g (lw_at lw_m4 33 rfl) rfl
theorem q883 : (Jvm.Cond.code ({ cls := "java/lang/StringUTF16", name := "compress", desc := "([BI[BII)I" } : Jvm.MethodName) prog_38_method_22_code (7 : Nat) (Option.some Jvm.ClassFile.FieldType.int)) ∈ lw_all := lw_g (lw_at lw_m4 34 rfl) rfl
theorem q884 : (Jvm.Cond.methodLink "java/lang/StringUTF16" (71 : Nat) ({ cls := "java/lang/StringUTF16", name := "getChar", desc := "([BI)C" } : Jvm.MethodName)) ∈ lw_all := lw_g (lw_at lw_m4 35 rfl) rfl
theorem q885 : (Jvm.Cond.static ({ cls := "java/lang/StringUTF16", name := "getChar", desc := "([BI)C" } : Jvm.MethodName)) ∈ lw_all := lw_g (lw_at lw_m4 36 rfl) rfl
theorem q886 : (Jvm.Cond.code ({ cls := "java/lang/StringUTF16", name := "getChar", desc := "([BI)C" } : Jvm.MethodName) prog_38_method_5_code (2 : Nat) (Option.some Jvm.ClassFile.FieldType.char)) ∈ lw_all := lw_g (lw_at lw_m4 37 rfl) rfl
theorem q887 : (Jvm.Cond.methodLink "java/lang/StringUTF16" (126 : Nat) ({ cls := "java/util/Arrays", name := "copyOfRange", desc := "([BII)[B" } : Jvm.MethodName)) ∈ lw_all := lw_g (lw_at lw_m4 38 rfl) rfl
theorem q889 : (Jvm.Cond.static ({ cls := "java/lang/StringUTF16", name := "coderFromArrayLen", desc := "([BI)B" } : Jvm.MethodName)) ∈ lw_all := lw_g (lw_at lw_m4 40 rfl) rfl
theorem q890 : (Jvm.Cond.code ({ cls := "java/lang/StringUTF16", name := "coderFromArrayLen", desc := "([BI)B" } : Jvm.MethodName) prog_38_method_15_code (2 : Nat) (Option.some Jvm.ClassFile.FieldType.byte)) ∈ lw_all := lw_g (lw_at lw_m4 41 rfl) rfl
theorem q1053 : (Jvm.Cond.static ({ cls := "java/lang/StringUTF16", name := "hashCode", desc := "([B)I" } : Jvm.MethodName)) ∈ lw_all := lw_g (lw_at lw_m4 204 rfl) rfl
theorem q1054 : (Jvm.Cond.code ({ cls := "java/lang/StringUTF16", name := "hashCode", desc := "([B)I" } : Jvm.MethodName) prog_38_method_39_code (1 : Nat) (Option.some Jvm.ClassFile.FieldType.int)) ∈ lw_all := lw_g (lw_at lw_m4 205 rfl) rfl
theorem q1055 : (Jvm.Cond.methodLink "java/lang/StringUTF16" (220 : Nat) ({ cls := "jdk/internal/util/ArraysSupport", name := "vectorizedHashCode", desc := "(Ljava/lang/Object;IIII)I" } : Jvm.MethodName)) ∈ lw_all := lw_g (lw_at lw_m4 206 rfl) rfl
theorem q1775 : (Jvm.Cond.static ({ cls := "java/lang/StringUTF16", name := "charAt", desc := "([BI)C" } : Jvm.MethodName)) ∈ lw_all := lw_g (lw_at lw_m7 206 rfl) rfl
theorem q1776 : (Jvm.Cond.code ({ cls := "java/lang/StringUTF16", name := "charAt", desc := "([BI)C" } : Jvm.MethodName) prog_38_method_83_code (2 : Nat) (Option.some Jvm.ClassFile.FieldType.char)) ∈ lw_all := lw_g (lw_at lw_m7 207 rfl) rfl
def RJ9 : String := "jdk/internal/util/ArraysSupport"
abbrev cJ9_newLength : ByteArray := prog_47_method_27_code
def yJ9_newLength : MethodName := ⟨RJ9, "newLength", "(III)I"⟩
abbrev cJ9_hugeLength : ByteArray := prog_47_method_28_code
def yJ9_hugeLength : MethodName := ⟨RJ9, "hugeLength", "(II)I"⟩
abbrev cJ9_vectorizedHashCode : ByteArray := prog_47_method_4_code
def yJ9_vectorizedHashCode : MethodName := ⟨RJ9, "vectorizedHashCode", "(Ljava/lang/Object;IIII)I"⟩
abbrev cJ9_signedHashCode : ByteArray := prog_47_method_5_code
def yJ9_signedHashCode : MethodName := ⟨RJ9, "signedHashCode", "(I[BII)I"⟩
abbrev cJ9_utf16hashCode : ByteArray := prog_47_method_10_code
def yJ9_utf16hashCode : MethodName := ⟨RJ9, "utf16hashCode", "(I[BII)I"⟩
abbrev cJ9_hashCode : ByteArray := prog_47_method_7_code
def yJ9_hashCode : MethodName := ⟨RJ9, "hashCode", "(I[CII)I"⟩
abbrev cJ9_hashCode_2 : ByteArray := prog_47_method_6_code
def yJ9_hashCode_2 : MethodName := ⟨RJ9, "hashCode", "(I[BII)I"⟩
abbrev cJ9_hashCode_3 : ByteArray := prog_47_method_8_code
def yJ9_hashCode_3 : MethodName := ⟨RJ9, "hashCode", "(I[SII)I"⟩
abbrev cJ9_hashCode_4 : ByteArray := prog_47_method_9_code
def yJ9_hashCode_4 : MethodName := ⟨RJ9, "hashCode", "(I[III)I"⟩
theorem q148 : (Jvm.Cond.initialized "jdk/internal/util/ArraysSupport") ∈ lw_all := lw_g (lw_at lw_m1 19 rfl) rfl
theorem q688 : (Jvm.Cond.static ({ cls := "jdk/internal/util/ArraysSupport", name := "newLength", desc := "(III)I" } : Jvm.MethodName)) ∈ lw_all := lw_g (lw_at lw_m3 79 rfl) rfl
theorem q689 : (Jvm.Cond.code ({ cls := "jdk/internal/util/ArraysSupport", name := "newLength", desc := "(III)I" } : Jvm.MethodName) prog_47_method_27_code (4 : Nat) (Option.some Jvm.ClassFile.FieldType.int)) ∈ lw_all := lw_g (lw_at lw_m3 80 rfl) rfl
theorem q690 : (Jvm.Cond.methodLink "jdk/internal/util/ArraysSupport" (194 : Nat) ({ cls := "java/lang/Math", name := "max", desc := "(II)I" } : Jvm.MethodName)) ∈ lw_all := lw_g (lw_at lw_m3 81 rfl) rfl
theorem q693 : (Jvm.Cond.constant "jdk/internal/util/ArraysSupport" (200 : Nat) (2147483639 : Int32)) ∈ lw_all := lw_g (lw_at lw_m3 84 rfl) rfl
theorem q694 : (Jvm.Cond.methodLink "jdk/internal/util/ArraysSupport" (201 : Nat) ({ cls := "jdk/internal/util/ArraysSupport", name := "hugeLength", desc := "(II)I" } : Jvm.MethodName)) ∈ lw_all := lw_g (lw_at lw_m3 85 rfl) rfl
theorem q695 : (Jvm.Cond.static ({ cls := "jdk/internal/util/ArraysSupport", name := "hugeLength", desc := "(II)I" } : Jvm.MethodName)) ∈ lw_all := lw_g (lw_at lw_m3 86 rfl) rfl
theorem q696 : (Jvm.Cond.code ({ cls := "jdk/internal/util/ArraysSupport", name := "hugeLength", desc := "(II)I" } : Jvm.MethodName) prog_47_method_28_code (3 : Nat) (Option.some Jvm.ClassFile.FieldType.int)) ∈ lw_all := lw_g (lw_at lw_m3 87 rfl) rfl
theorem q1007 : (Jvm.Cond.static ({ cls := "jdk/internal/util/ArraysSupport", name := "vectorizedHashCode", desc := "(Ljava/lang/Object;IIII)I" } : Jvm.MethodName)) ∈ lw_all := lw_g (lw_at lw_m4 158 rfl) rfl
theorem q1008 : (Jvm.Cond.code ({ cls := "jdk/internal/util/ArraysSupport", name := "vectorizedHashCode", desc := "(Ljava/lang/Object;IIII)I" } : Jvm.MethodName) prog_47_method_4_code (5 : Nat) (Option.some Jvm.ClassFile.FieldType.int)) ∈ lw_all := lw_g (lw_at lw_m4 159 rfl) rfl
theorem q1009 : (Jvm.Cond.classLink "jdk/internal/util/ArraysSupport" (60 : Nat) "[B") ∈ lw_all := lw_g (lw_at lw_m4 160 rfl) rfl
theorem q1010 : (Jvm.Cond.methodLink "jdk/internal/util/ArraysSupport" (62 : Nat) ({ cls := "jdk/internal/util/ArraysSupport", name := "signedHashCode", desc := "(I[BII)I" } : Jvm.MethodName)) ∈ lw_all := lw_g (lw_at lw_m4 161 rfl) rfl
theorem q1011 : (Jvm.Cond.static ({ cls := "jdk/internal/util/ArraysSupport", name := "signedHashCode", desc := "(I[BII)I" } : Jvm.MethodName)) ∈ lw_all := lw_g (lw_at lw_m4 162 rfl) rfl
theorem q1012 : (Jvm.Cond.code ({ cls := "jdk/internal/util/ArraysSupport", name := "signedHashCode", desc := "(I[BII)I" } : Jvm.MethodName) prog_47_method_5_code (6 : Nat) (Option.some Jvm.ClassFile.FieldType.int)) ∈ lw_all := lw_g (lw_at lw_m4 163 rfl) rfl
theorem q1013 : (Jvm.Cond.methodLink "jdk/internal/util/ArraysSupport" (66 : Nat) ({ cls := "jdk/internal/util/ArraysSupport", name := "utf16hashCode", desc := "(I[BII)I" } : Jvm.MethodName)) ∈ lw_all := lw_g (lw_at lw_m4 164 rfl) rfl
theorem q1014 : (Jvm.Cond.static ({ cls := "jdk/internal/util/ArraysSupport", name := "utf16hashCode", desc := "(I[BII)I" } : Jvm.MethodName)) ∈ lw_all := lw_g (lw_at lw_m4 165 rfl) rfl
theorem q1015 : (Jvm.Cond.code ({ cls := "jdk/internal/util/ArraysSupport", name := "utf16hashCode", desc := "(I[BII)I" } : Jvm.MethodName) prog_47_method_10_code (6 : Nat) (Option.some Jvm.ClassFile.FieldType.int)) ∈ lw_all := lw_g (lw_at lw_m4 166 rfl) rfl
theorem q1016 : (Jvm.Cond.fieldLink "jdk/internal/util/ArraysSupport" (106 : Nat) "jdk/internal/util/ArraysSupport" "JLA" "Ljdk/internal/access/JavaLangAccess;") ∈ lw_all := lw_g (lw_at lw_m4 167 rfl) rfl
theorem q1017 : (Jvm.Cond.laysStatic "jdk/internal/util/ArraysSupport" "JLA" "Ljdk/internal/access/JavaLangAccess;") ∈ lw_tbl := lw_at lw_m4 168 rfl
theorem q1018 : (Jvm.Cond.interfaceEntry "jdk/internal/util/ArraysSupport" (110 : Nat)) ∈ lw_tbl := lw_at lw_m4 169 rfl
theorem q1019 : (Jvm.Cond.methodLink "jdk/internal/util/ArraysSupport" (110 : Nat) ({ cls := "jdk/internal/access/JavaLangAccess", name := "getUTF16Char", desc := "([BI)C" } : Jvm.MethodName)) ∈ lw_all := lw_g (lw_at lw_m4 170 rfl) rfl
theorem q1029 : (Jvm.Cond.classLink "jdk/internal/util/ArraysSupport" (69 : Nat) "[C") ∈ lw_all := lw_g (lw_at lw_m4 180 rfl) rfl
theorem q1030 : (Jvm.Cond.methodLink "jdk/internal/util/ArraysSupport" (71 : Nat) ({ cls := "jdk/internal/util/ArraysSupport", name := "hashCode", desc := "(I[CII)I" } : Jvm.MethodName)) ∈ lw_all := lw_g (lw_at lw_m4 181 rfl) rfl
theorem q1031 : (Jvm.Cond.static ({ cls := "jdk/internal/util/ArraysSupport", name := "hashCode", desc := "(I[CII)I" } : Jvm.MethodName)) ∈ lw_all := lw_g (lw_at lw_m4 182 rfl) rfl
theorem q1032 : (Jvm.Cond.code ({ cls := "jdk/internal/util/ArraysSupport", name := "hashCode", desc := "(I[CII)I" } : Jvm.MethodName) prog_47_method_7_code (6 : Nat) (Option.some Jvm.ClassFile.FieldType.int)) ∈ lw_all := lw_g (lw_at lw_m4 183 rfl) rfl
theorem q1033 : (Jvm.Cond.methodLink "jdk/internal/util/ArraysSupport" (75 : Nat) ({ cls := "jdk/internal/util/ArraysSupport", name := "hashCode", desc := "(I[BII)I" } : Jvm.MethodName)) ∈ lw_all := lw_g (lw_at lw_m4 184 rfl) rfl
theorem q1034 : (Jvm.Cond.static ({ cls := "jdk/internal/util/ArraysSupport", name := "hashCode", desc := "(I[BII)I" } : Jvm.MethodName)) ∈ lw_all := lw_g (lw_at lw_m4 185 rfl) rfl
theorem q1035 : (Jvm.Cond.code ({ cls := "jdk/internal/util/ArraysSupport", name := "hashCode", desc := "(I[BII)I" } : Jvm.MethodName) prog_47_method_6_code (6 : Nat) (Option.some Jvm.ClassFile.FieldType.int)) ∈ lw_all := lw_g (lw_at lw_m4 186 rfl) rfl
theorem q1036 : (Jvm.Cond.classLink "jdk/internal/util/ArraysSupport" (77 : Nat) "[S") ∈ lw_all := lw_g (lw_at lw_m4 187 rfl) rfl
theorem q1037 : (Jvm.Cond.methodLink "jdk/internal/util/ArraysSupport" (79 : Nat) ({ cls := "jdk/internal/util/ArraysSupport", name := "hashCode", desc := "(I[SII)I" } : Jvm.MethodName)) ∈ lw_all := lw_g (lw_at lw_m4 188 rfl) rfl
theorem q1038 : (Jvm.Cond.static ({ cls := "jdk/internal/util/ArraysSupport", name := "hashCode", desc := "(I[SII)I" } : Jvm.MethodName)) ∈ lw_all := lw_g (lw_at lw_m4 189 rfl) rfl
theorem q1039 : (Jvm.Cond.code ({ cls := "jdk/internal/util/ArraysSupport", name := "hashCode", desc := "(I[SII)I" } : Jvm.MethodName) prog_47_method_8_code (6 : Nat) (Option.some Jvm.ClassFile.FieldType.int)) ∈ lw_all := lw_g (lw_at lw_m4 190 rfl) rfl
theorem q1040 : (Jvm.Cond.classLink "jdk/internal/util/ArraysSupport" (82 : Nat) "[I") ∈ lw_all := lw_g (lw_at lw_m4 191 rfl) rfl
theorem q1041 : (Jvm.Cond.methodLink "jdk/internal/util/ArraysSupport" (84 : Nat) ({ cls := "jdk/internal/util/ArraysSupport", name := "hashCode", desc := "(I[III)I" } : Jvm.MethodName)) ∈ lw_all := lw_g (lw_at lw_m4 192 rfl) rfl
theorem q1042 : (Jvm.Cond.static ({ cls := "jdk/internal/util/ArraysSupport", name := "hashCode", desc := "(I[III)I" } : Jvm.MethodName)) ∈ lw_all := lw_g (lw_at lw_m4 193 rfl) rfl
theorem q1043 : (Jvm.Cond.code ({ cls := "jdk/internal/util/ArraysSupport", name := "hashCode", desc := "(I[III)I" } : Jvm.MethodName) prog_47_method_9_code (6 : Nat) (Option.some Jvm.ClassFile.FieldType.int)) ∈ lw_all := lw_g (lw_at lw_m4 194 rfl) rfl
theorem q1044 : (Jvm.Cond.classLink "jdk/internal/util/ArraysSupport" (87 : Nat) "java/lang/IllegalArgumentException") ∈ lw_all := lw_g (lw_at lw_m4 195 rfl) rfl
theorem q1045 : (Jvm.Cond.classLink "jdk/internal/util/ArraysSupport" (89 : Nat) "java/lang/StringBuilder") ∈ lw_all := lw_g (lw_at lw_m4 196 rfl) rfl
theorem q1046 : (Jvm.Cond.methodLink "jdk/internal/util/ArraysSupport" (91 : Nat) ({ cls := "java/lang/StringBuilder", name := "<init>", desc := "()V" } : Jvm.MethodName)) ∈ lw_all := lw_g (lw_at lw_m4 197 rfl) rfl
theorem q1047 : (Jvm.Cond.stringRef "jdk/internal/util/ArraysSupport" (92 : Nat) "unrecognized basic type: ") ∈ lw_tbl := lw_at lw_m4 198 rfl
theorem q1048 : (Jvm.Cond.methodLink "jdk/internal/util/ArraysSupport" (94 : Nat) ({ cls := "java/lang/StringBuilder", name := "append", desc := "(Ljava/lang/String;)Ljava/lang/StringBuilder;" } : Jvm.MethodName)) ∈ lw_all := lw_g (lw_at lw_m4 199 rfl) rfl
theorem q1049 : (Jvm.Cond.methodLink "jdk/internal/util/ArraysSupport" (98 : Nat) ({ cls := "java/lang/StringBuilder", name := "append", desc := "(I)Ljava/lang/StringBuilder;" } : Jvm.MethodName)) ∈ lw_all := lw_g (lw_at lw_m4 200 rfl) rfl
theorem q1050 : (Jvm.Cond.methodLink "jdk/internal/util/ArraysSupport" (101 : Nat) ({ cls := "java/lang/StringBuilder", name := "toString", desc := "()Ljava/lang/String;" } : Jvm.MethodName)) ∈ lw_all := lw_g (lw_at lw_m4 201 rfl) rfl
theorem q1051 : (Jvm.Cond.methodLink "jdk/internal/util/ArraysSupport" (105 : Nat) ({ cls := "java/lang/IllegalArgumentException", name := "<init>", desc := "(Ljava/lang/String;)V" } : Jvm.MethodName)) ∈ lw_all := lw_g (lw_at lw_m4 202 rfl) rfl
def RJ10 : String := "java/util/Arrays"
abbrev cJ10_copyOf : ByteArray := prog_44_method_121_code
def yJ10_copyOf : MethodName := ⟨RJ10, "copyOf", "([BI)[B"⟩
abbrev cJ10_copyOfRange : ByteArray := prog_44_method_132_code
def yJ10_copyOfRange : MethodName := ⟨RJ10, "copyOfRange", "([BII)[B"⟩
abbrev cJ10_copyOfRangeByte : ByteArray := prog_44_method_133_code
def yJ10_copyOfRangeByte : MethodName := ⟨RJ10, "copyOfRangeByte", "([BII)[B"⟩
abbrev cJ10_checkLength : ByteArray := prog_44_method_131_code
def yJ10_checkLength : MethodName := ⟨RJ10, "checkLength", "(II)V"⟩
theorem q149 : (Jvm.Cond.initialized "java/util/Arrays") ∈ lw_all := lw_g (lw_at lw_m1 20 rfl) rfl
theorem q699 : (Jvm.Cond.static ({ cls := "java/util/Arrays", name := "copyOf", desc := "([BI)[B" } : Jvm.MethodName)) ∈ lw_all := lw_g (lw_at lw_m3 90 rfl) rfl
theorem q700 : (Jvm.Cond.code ({ cls := "java/util/Arrays", name := "copyOf", desc := "([BI)[B" } : Jvm.MethodName) prog_44_method_121_code (3 : Nat) (Option.some (Jvm.ClassFile.FieldType.array Jvm.ClassFile.FieldType.byte))) ∈ lw_all := lw_g (lw_at lw_m3 91 rfl) rfl
theorem q701 : (Jvm.Cond.methodLink "java/util/Arrays" (310 : Nat) ({ cls := "[B", name := "clone", desc := "()Ljava/lang/Object;" } : Jvm.MethodName)) ∈ lw_all := lw_g (lw_at lw_m3 92 rfl) rfl
theorem q707 : (Jvm.Cond.classLink "java/util/Arrays" (311 : Nat) "[B") ∈ lw_all := lw_g (lw_at lw_m3 98 rfl) rfl
theorem q708 : (Jvm.Cond.methodLink "java/util/Arrays" (304 : Nat) ({ cls := "java/lang/Math", name := "min", desc := "(II)I" } : Jvm.MethodName)) ∈ lw_all := lw_g (lw_at lw_m3 99 rfl) rfl
theorem q711 : (Jvm.Cond.methodLink "java/util/Arrays" (150 : Nat) ({ cls := "java/lang/System", name := "arraycopy", desc := "(Ljava/lang/Object;ILjava/lang/Object;II)V" } : Jvm.MethodName)) ∈ lw_all := lw_g (lw_at lw_m3 102 rfl) rfl
theorem q787 : (Jvm.Cond.static ({ cls := "java/util/Arrays", name := "copyOfRange", desc := "([BII)[B" } : Jvm.MethodName)) ∈ lw_all := lw_g (lw_at lw_m3 178 rfl) rfl
theorem q788 : (Jvm.Cond.code ({ cls := "java/util/Arrays", name := "copyOfRange", desc := "([BII)[B" } : Jvm.MethodName) prog_44_method_132_code (3 : Nat) (Option.some (Jvm.ClassFile.FieldType.array Jvm.ClassFile.FieldType.byte))) ∈ lw_all := lw_g (lw_at lw_m3 179 rfl) rfl
theorem q789 : (Jvm.Cond.methodLink "java/util/Arrays" (339 : Nat) ({ cls := "java/util/Arrays", name := "copyOfRangeByte", desc := "([BII)[B" } : Jvm.MethodName)) ∈ lw_all := lw_g (lw_at lw_m3 180 rfl) rfl
theorem q790 : (Jvm.Cond.static ({ cls := "java/util/Arrays", name := "copyOfRangeByte", desc := "([BII)[B" } : Jvm.MethodName)) ∈ lw_all := lw_g (lw_at lw_m3 181 rfl) rfl
theorem q791 : (Jvm.Cond.code ({ cls := "java/util/Arrays", name := "copyOfRangeByte", desc := "([BII)[B" } : Jvm.MethodName) prog_44_method_133_code (5 : Nat) (Option.some (Jvm.ClassFile.FieldType.array Jvm.ClassFile.FieldType.byte))) ∈ lw_all := lw_g (lw_at lw_m3 182 rfl) rfl
theorem q792 : (Jvm.Cond.methodLink "java/util/Arrays" (343 : Nat) ({ cls := "java/util/Arrays", name := "checkLength", desc := "(II)V" } : Jvm.MethodName)) ∈ lw_all := lw_g (lw_at lw_m3 183 rfl) rfl
theorem q793 : (Jvm.Cond.static ({ cls := "java/util/Arrays", name := "checkLength", desc := "(II)V" } : Jvm.MethodName)) ∈ lw_all := lw_g (lw_at lw_m3 184 rfl) rfl
theorem q794 : (Jvm.Cond.code ({ cls := "java/util/Arrays", name := "checkLength", desc := "(II)V" } : Jvm.MethodName) prog_44_method_131_code (2 : Nat) (Option.none : Option Jvm.ClassFile.FieldType)) ∈ lw_all := lw_g (lw_at lw_m3 185 rfl) rfl
theorem q795 : (Jvm.Cond.classLink "java/util/Arrays" (43 : Nat) "java/lang/IllegalArgumentException") ∈ lw_all := lw_g (lw_at lw_m3 186 rfl) rfl
theorem q796 : (Jvm.Cond.classLink "java/util/Arrays" (45 : Nat) "java/lang/StringBuilder") ∈ lw_all := lw_g (lw_at lw_m3 187 rfl) rfl
theorem q797 : (Jvm.Cond.methodLink "java/util/Arrays" (47 : Nat) ({ cls := "java/lang/StringBuilder", name := "<init>", desc := "()V" } : Jvm.MethodName)) ∈ lw_all := lw_g (lw_at lw_m3 188 rfl) rfl
theorem q800 : (Jvm.Cond.methodLink "java/util/Arrays" (54 : Nat) ({ cls := "java/lang/StringBuilder", name := "append", desc := "(I)Ljava/lang/StringBuilder;" } : Jvm.MethodName)) ∈ lw_all := lw_g (lw_at lw_m3 191 rfl) rfl
theorem q834 : (Jvm.Cond.stringRef "java/util/Arrays" (337 : Nat) " > ") ∈ lw_tbl := lw_at lw_m3 225 rfl
theorem q835 : (Jvm.Cond.methodLink "java/util/Arrays" (50 : Nat) ({ cls := "java/lang/StringBuilder", name := "append", desc := "(Ljava/lang/String;)Ljava/lang/StringBuilder;" } : Jvm.MethodName)) ∈ lw_all := lw_g (lw_at lw_m3 226 rfl) rfl
theorem q873 : (Jvm.Cond.methodLink "java/util/Arrays" (61 : Nat) ({ cls := "java/lang/StringBuilder", name := "toString", desc := "()Ljava/lang/String;" } : Jvm.MethodName)) ∈ lw_all := lw_g (lw_at lw_m4 24 rfl) rfl
theorem q874 : (Jvm.Cond.methodLink "java/util/Arrays" (65 : Nat) ({ cls := "java/lang/IllegalArgumentException", name := "<init>", desc := "(Ljava/lang/String;)V" } : Jvm.MethodName)) ∈ lw_all := lw_g (lw_at lw_m4 25 rfl) rfl
def RJ11 : String := "java/lang/StringLatin1"
abbrev cJ11_canEncode : ByteArray := prog_37_method_3_code
def yJ11_canEncode : MethodName := ⟨RJ11, "canEncode", "(C)Z"⟩
abbrev cJ11_inflate : ByteArray := prog_37_method_50_code
def yJ11_inflate : MethodName := ⟨RJ11, "inflate", "([BI[BII)V"⟩
abbrev cJ11_equals : ByteArray := prog_37_method_13_code
def yJ11_equals : MethodName := ⟨RJ11, "equals", "([B[B)Z"⟩
abbrev cJ11_hashCode : ByteArray := prog_37_method_21_code
def yJ11_hashCode : MethodName := ⟨RJ11, "hashCode", "([B)I"⟩
abbrev cJ11_charAt : ByteArray := prog_37_method_2_code
def yJ11_charAt : MethodName := ⟨RJ11, "charAt", "([BI)C"⟩
theorem q151 : (Jvm.Cond.initialized "java/lang/StringLatin1") ∈ lw_all := lw_g (lw_at lw_m1 22 rfl) rfl
theorem q720 : (Jvm.Cond.static ({ cls := "java/lang/StringLatin1", name := "canEncode", desc := "(C)Z" } : Jvm.MethodName)) ∈ lw_all := lw_g (lw_at lw_m3 111 rfl) rfl
theorem q721 : (Jvm.Cond.code ({ cls := "java/lang/StringLatin1", name := "canEncode", desc := "(C)Z" } : Jvm.MethodName) prog_37_method_3_code (1 : Nat) (Option.some Jvm.ClassFile.FieldType.boolean)) ∈ lw_all := lw_g (lw_at lw_m3 112 rfl) rfl
theorem q727 : (Jvm.Cond.static ({ cls := "java/lang/StringLatin1", name := "inflate", desc := "([BI[BII)V" } : Jvm.MethodName)) ∈ lw_all := lw_g (lw_at lw_m3 118 rfl) rfl
theorem q728 : (Jvm.Cond.code ({ cls := "java/lang/StringLatin1", name := "inflate", desc := "([BI[BII)V" } : Jvm.MethodName) prog_37_method_50_code (5 : Nat) (Option.none : Option Jvm.ClassFile.FieldType)) ∈ lw_all := lw_g (lw_at lw_m3 119 rfl) rfl
theorem q729 : (Jvm.Cond.methodLink "java/lang/StringLatin1" (240 : Nat) ({ cls := "java/lang/StringUTF16", name := "inflate", desc := "([BI[BII)V" } : Jvm.MethodName)) ∈ lw_all := lw_g (lw_at lw_m3 120 rfl) rfl
theorem q949 : (Jvm.Cond.static ({ cls := "java/lang/StringLatin1", name := "equals", desc := "([B[B)Z" } : Jvm.MethodName)) ∈ lw_all := lw_g (lw_at lw_m4 100 rfl) rfl
theorem q950 : (Jvm.Cond.code ({ cls := "java/lang/StringLatin1", name := "equals", desc := "([B[B)Z" } : Jvm.MethodName) prog_37_method_13_code (3 : Nat) (Option.some Jvm.ClassFile.FieldType.boolean)) ∈ lw_all := lw_g (lw_at lw_m4 101 rfl) rfl
theorem q1004 : (Jvm.Cond.static ({ cls := "java/lang/StringLatin1", name := "hashCode", desc := "([B)I" } : Jvm.MethodName)) ∈ lw_all := lw_g (lw_at lw_m4 155 rfl) rfl
theorem q1005 : (Jvm.Cond.code ({ cls := "java/lang/StringLatin1", name := "hashCode", desc := "([B)I" } : Jvm.MethodName) prog_37_method_21_code (1 : Nat) (Option.some Jvm.ClassFile.FieldType.int)) ∈ lw_all := lw_g (lw_at lw_m4 156 rfl) rfl
theorem q1006 : (Jvm.Cond.methodLink "java/lang/StringLatin1" (84 : Nat) ({ cls := "jdk/internal/util/ArraysSupport", name := "vectorizedHashCode", desc := "(Ljava/lang/Object;IIII)I" } : Jvm.MethodName)) ∈ lw_all := lw_g (lw_at lw_m4 157 rfl) rfl
theorem q1771 : (Jvm.Cond.static ({ cls := "java/lang/StringLatin1", name := "charAt", desc := "([BI)C" } : Jvm.MethodName)) ∈ lw_all := lw_g (lw_at lw_m7 202 rfl) rfl
theorem q1772 : (Jvm.Cond.code ({ cls := "java/lang/StringLatin1", name := "charAt", desc := "([BI)C" } : Jvm.MethodName) prog_37_method_2_code (2 : Nat) (Option.some Jvm.ClassFile.FieldType.char)) ∈ lw_all := lw_g (lw_at lw_m7 203 rfl) rfl
theorem q1773 : (Jvm.Cond.methodLink "java/lang/StringLatin1" (9 : Nat) ({ cls := "java/lang/String", name := "checkIndex", desc := "(II)V" } : Jvm.MethodName)) ∈ lw_all := lw_g (lw_at lw_m7 204 rfl) rfl
def RJ12 : String := "jdk/internal/util/Preconditions"
abbrev cJ12_checkFromIndexSize : ByteArray := prog_48_method_13_code
def yJ12_checkFromIndexSize : MethodName := ⟨RJ12, "checkFromIndexSize", "(IIILjava/util/function/BiFunction;)I"⟩
abbrev cJ12_checkIndex : ByteArray := prog_48_method_11_code
def yJ12_checkIndex : MethodName := ⟨RJ12, "checkIndex", "(IILjava/util/function/BiFunction;)I"⟩
abbrev cJ12_checkFromToIndex : ByteArray := prog_48_method_12_code
def yJ12_checkFromToIndex : MethodName := ⟨RJ12, "checkFromToIndex", "(IIILjava/util/function/BiFunction;)I"⟩
theorem q152 : (Jvm.Cond.initialized "jdk/internal/util/Preconditions") ∈ lw_all := lw_g (lw_at lw_m1 23 rfl) rfl
theorem q742 : (Jvm.Cond.laysStatic "jdk/internal/util/Preconditions" "SIOOBE_FORMATTER" "Ljava/util/function/BiFunction;") ∈ lw_tbl := lw_at lw_m3 133 rfl
theorem q744 : (Jvm.Cond.static ({ cls := "jdk/internal/util/Preconditions", name := "checkFromIndexSize", desc := "(IIILjava/util/function/BiFunction;)I" } : Jvm.MethodName)) ∈ lw_all := lw_g (lw_at lw_m3 135 rfl) rfl
theorem q745 : (Jvm.Cond.code ({ cls := "jdk/internal/util/Preconditions", name := "checkFromIndexSize", desc := "(IIILjava/util/function/BiFunction;)I" } : Jvm.MethodName) prog_48_method_13_code (4 : Nat) (Option.some Jvm.ClassFile.FieldType.int)) ∈ lw_all := lw_g (lw_at lw_m3 136 rfl) rfl
theorem q765 : (Jvm.Cond.static ({ cls := "jdk/internal/util/Preconditions", name := "checkIndex", desc := "(IILjava/util/function/BiFunction;)I" } : Jvm.MethodName)) ∈ lw_all := lw_g (lw_at lw_m3 156 rfl) rfl
theorem q766 : (Jvm.Cond.code ({ cls := "jdk/internal/util/Preconditions", name := "checkIndex", desc := "(IILjava/util/function/BiFunction;)I" } : Jvm.MethodName) prog_48_method_11_code (3 : Nat) (Option.some Jvm.ClassFile.FieldType.int)) ∈ lw_all := lw_g (lw_at lw_m3 157 rfl) rfl
theorem q827 : (Jvm.Cond.static ({ cls := "jdk/internal/util/Preconditions", name := "checkFromToIndex", desc := "(IIILjava/util/function/BiFunction;)I" } : Jvm.MethodName)) ∈ lw_all := lw_g (lw_at lw_m3 218 rfl) rfl
theorem q828 : (Jvm.Cond.code ({ cls := "jdk/internal/util/Preconditions", name := "checkFromToIndex", desc := "(IIILjava/util/function/BiFunction;)I" } : Jvm.MethodName) prog_48_method_12_code (4 : Nat) (Option.some Jvm.ClassFile.FieldType.int)) ∈ lw_all := lw_g (lw_at lw_m3 219 rfl) rfl
def RJ13 : String := "java/lang/Integer"
abbrev cJ13_stringSize : ByteArray := prog_30_method_13_code
def yJ13_stringSize : MethodName := ⟨RJ13, "stringSize", "(I)I"⟩
abbrev cJ13_getChars : ByteArray := prog_30_method_12_code
def yJ13_getChars : MethodName := ⟨RJ13, "getChars", "(II[B)I"⟩
abbrev cJ13_numberOfTrailingZeros : ByteArray := prog_30_method_48_code
def yJ13_numberOfTrailingZeros : MethodName := ⟨RJ13, "numberOfTrailingZeros", "(I)I"⟩
abbrev cJ13_bitCount : ByteArray := prog_30_method_49_code
def yJ13_bitCount : MethodName := ⟨RJ13, "bitCount", "(I)I"⟩
theorem q154 : (Jvm.Cond.initialized "java/lang/Integer") ∈ lw_all := lw_g (lw_at lw_m1 25 rfl) rfl
theorem q808 : (Jvm.Cond.static ({ cls := "java/lang/Integer", name := "stringSize", desc := "(I)I" } : Jvm.MethodName)) ∈ lw_all := lw_g (lw_at lw_m3 199 rfl) rfl
theorem q809 : (Jvm.Cond.code ({ cls := "java/lang/Integer", name := "stringSize", desc := "(I)I" } : Jvm.MethodName) prog_30_method_13_code (4 : Nat) (Option.some Jvm.ClassFile.FieldType.int)) ∈ lw_all := lw_g (lw_at lw_m3 200 rfl) rfl
theorem q811 : (Jvm.Cond.static ({ cls := "java/lang/Integer", name := "getChars", desc := "(II[B)I" } : Jvm.MethodName)) ∈ lw_all := lw_g (lw_at lw_m3 202 rfl) rfl
theorem q812 : (Jvm.Cond.code ({ cls := "java/lang/Integer", name := "getChars", desc := "(II[B)I" } : Jvm.MethodName) prog_30_method_12_code (7 : Nat) (Option.some Jvm.ClassFile.FieldType.int)) ∈ lw_all := lw_g (lw_at lw_m3 203 rfl) rfl
theorem q813 : (Jvm.Cond.fieldLink "java/lang/Integer" (83 : Nat) "java/lang/Integer" "DigitOnes" "[B") ∈ lw_all := lw_g (lw_at lw_m3 204 rfl) rfl
theorem q814 : (Jvm.Cond.laysStatic "java/lang/Integer" "DigitOnes" "[B") ∈ lw_tbl := lw_at lw_m3 205 rfl
theorem q815 : (Jvm.Cond.fieldLink "java/lang/Integer" (87 : Nat) "java/lang/Integer" "DigitTens" "[B") ∈ lw_all := lw_g (lw_at lw_m3 206 rfl) rfl
theorem q816 : (Jvm.Cond.laysStatic "java/lang/Integer" "DigitTens" "[B") ∈ lw_tbl := lw_at lw_m3 207 rfl
theorem q1885 : (Jvm.Cond.static ({ cls := "java/lang/Integer", name := "numberOfTrailingZeros", desc := "(I)I" } : Jvm.MethodName)) ∈ lw_all := lw_g (lw_at lw_m8 76 rfl) rfl
theorem q1886 : (Jvm.Cond.code ({ cls := "java/lang/Integer", name := "numberOfTrailingZeros", desc := "(I)I" } : Jvm.MethodName) prog_30_method_48_code (2 : Nat) (Option.some Jvm.ClassFile.FieldType.int)) ∈ lw_all := lw_g (lw_at lw_m8 77 rfl) rfl
theorem q1887 : (Jvm.Cond.constant "java/lang/Integer" (264 : Nat) (65536 : Int32)) ∈ lw_all := lw_g (lw_at lw_m8 78 rfl) rfl
theorem q2102 : (Jvm.Cond.static ({ cls := "java/lang/Integer", name := "bitCount", desc := "(I)I" } : Jvm.MethodName)) ∈ lw_all := lw_g (lw_at lw_m9 53 rfl) rfl
theorem q2103 : (Jvm.Cond.code ({ cls := "java/lang/Integer", name := "bitCount", desc := "(I)I" } : Jvm.MethodName) prog_30_method_49_code (1 : Nat) (Option.some Jvm.ClassFile.FieldType.int)) ∈ lw_all := lw_g (lw_at lw_m9 54 rfl) rfl
theorem q2104 : (Jvm.Cond.constant "java/lang/Integer" (265 : Nat) (1431655765 : Int32)) ∈ lw_all := lw_g (lw_at lw_m9 55 rfl) rfl
theorem q2105 : (Jvm.Cond.constant "java/lang/Integer" (266 : Nat) (858993459 : Int32)) ∈ lw_all := lw_g (lw_at lw_m9 56 rfl) rfl
theorem q2106 : (Jvm.Cond.constant "java/lang/Integer" (267 : Nat) (252645135 : Int32)) ∈ lw_all := lw_g (lw_at lw_m9 57 rfl) rfl
def RX8 : String := "EarthMesh$Fault"
def TX8 : u_T := fun k => match k with
  | 0 => ("java/lang/Throwable", "cause", "Ljava/lang/Throwable;", false)
  | 1 => ("java/lang/Throwable", "stackTrace", "[Ljava/lang/StackTraceElement;", false)
  | 2 => ("java/lang/Throwable", "suppressedExceptions", "Ljava/util/List;", false)
  | 3 => ("java/lang/Throwable", "detailMessage", "Ljava/lang/String;", false)
  | 4 => ("java/lang/Throwable", "backtrace", "Ljava/lang/Object;", false)
  | 5 => ("java/lang/Throwable", "depth", "I", false)
  | 6 => ("EarthMesh$Fault", "kind", "I", true)
  | _ => ("EarthMesh$Fault", "place", "I", true)
def tyX8 : Nat → FieldType := fun k => match k with
  | 0 => .object "java/lang/Throwable"
  | 1 => .array (.object "java/lang/StackTraceElement")
  | 2 => .object "java/util/List"
  | 3 => .object "java/lang/String"
  | 4 => .object "java/lang/Object"
  | 5 => .int
  | 6 => .int
  | _ => .int
abbrev wsX80 : List Cond := u_ws RX8 TX8 8
theorem nmX8 : ∀ a, a < 8 → ∀ b, b < 8 → a ≠ b → (TX8 a).2.1 ≠ (TX8 b).2.1 := by decide +kernel
theorem tyX8_ok : ∀ k, k < 8 → parseFieldDescriptor (TX8 k).2.2.1 = some (tyX8 k) := by decide +kernel
abbrev cX8_init : ByteArray := prog_6_method_1_code
def yX8_init : MethodName := ⟨RX8, "<init>", "(II)V"⟩
theorem q155 : (Jvm.Cond.initialized "EarthMesh$Fault") ∈ lw_all := lw_g (lw_at lw_m1 26 rfl) rfl
theorem q514 : (Jvm.Cond.selects "EarthMesh$Fault" ({ cls := "java/lang/Throwable", name := "fillInStackTrace", desc := "()Ljava/lang/Throwable;" } : Jvm.MethodName) ({ cls := "java/lang/Throwable", name := "fillInStackTrace", desc := "()Ljava/lang/Throwable;" } : Jvm.MethodName)) ∈ lw_all := lw_g (lw_at lw_m2 145 rfl) rfl
theorem q956 : (Jvm.Cond.instantiable "EarthMesh$Fault" (8 : Nat)) ∈ lw_all := lw_g (lw_at lw_m4 107 rfl) rfl
theorem q957 : (Jvm.Cond.castable "EarthMesh$Fault" "EarthMesh$Fault") ∈ lw_tbl := lw_at lw_m4 108 rfl
theorem q958 : (Jvm.Cond.selects "EarthMesh$Fault" ({ cls := "java/lang/Throwable", name := "fillInStackTrace", desc := "(I)Ljava/lang/Throwable;" } : Jvm.MethodName) ({ cls := "java/lang/Throwable", name := "fillInStackTrace", desc := "(I)Ljava/lang/Throwable;" } : Jvm.MethodName)) ∈ lw_all := lw_g (lw_at lw_m4 109 rfl) rfl
theorem q959 : (Jvm.Cond.lays "EarthMesh$Fault" "java/lang/Throwable" "cause" "Ljava/lang/Throwable;") ∈ lw_all := lw_g (lw_at lw_m4 110 rfl) rfl
theorem q960 : (Jvm.Cond.lays "EarthMesh$Fault" "java/lang/Throwable" "stackTrace" "[Ljava/lang/StackTraceElement;") ∈ lw_all := lw_g (lw_at lw_m4 111 rfl) rfl
theorem q961 : (Jvm.Cond.lays "EarthMesh$Fault" "java/lang/Throwable" "suppressedExceptions" "Ljava/util/List;") ∈ lw_all := lw_g (lw_at lw_m4 112 rfl) rfl
theorem q962 : (Jvm.Cond.lays "EarthMesh$Fault" "java/lang/Throwable" "detailMessage" "Ljava/lang/String;") ∈ lw_all := lw_g (lw_at lw_m4 113 rfl) rfl
theorem q963 : (Jvm.Cond.lays "EarthMesh$Fault" "java/lang/Throwable" "backtrace" "Ljava/lang/Object;") ∈ lw_all := lw_g (lw_at lw_m4 114 rfl) rfl
theorem q965 : (Jvm.Cond.instanceMethod ({ cls := "EarthMesh$Fault", name := "<init>", desc := "(II)V" } : Jvm.MethodName)) ∈ lw_all := lw_g (lw_at lw_m4 116 rfl) rfl
theorem q966 : (Jvm.Cond.code ({ cls := "EarthMesh$Fault", name := "<init>", desc := "(II)V" } : Jvm.MethodName) prog_6_method_1_code (3 : Nat) (Option.none : Option Jvm.ClassFile.FieldType)) ∈ lw_all := lw_g (lw_at lw_m4 117 rfl) rfl
theorem q967 : (Jvm.Cond.methodLink "EarthMesh$Fault" (1 : Nat) ({ cls := "java/lang/Exception", name := "<init>", desc := "(Ljava/lang/String;Ljava/lang/Throwable;ZZ)V" } : Jvm.MethodName)) ∈ lw_all := lw_g (lw_at lw_m4 118 rfl) rfl
theorem q973 : (Jvm.Cond.fieldLink "EarthMesh$Fault" (7 : Nat) "EarthMesh$Fault" "kind" "I") ∈ lw_all := lw_g (lw_at lw_m4 124 rfl) rfl
theorem q975 : (Jvm.Cond.fieldLink "EarthMesh$Fault" (13 : Nat) "EarthMesh$Fault" "place" "I") ∈ lw_all := lw_g (lw_at lw_m4 126 rfl) rfl
theorem q977 : (Jvm.Cond.laysFinal "EarthMesh$Fault" "EarthMesh$Fault" "kind" "I") ∈ lw_all := lw_g (lw_at lw_m4 128 rfl) rfl
theorem q978 : (Jvm.Cond.soleField "EarthMesh$Fault" "kind") ∈ lw_all := lw_g (lw_at lw_m4 129 rfl) rfl
theorem q979 : (Jvm.Cond.laysFinal "EarthMesh$Fault" "EarthMesh$Fault" "place" "I") ∈ lw_all := lw_g (lw_at lw_m4 130 rfl) rfl
theorem q980 : (Jvm.Cond.soleField "EarthMesh$Fault" "place") ∈ lw_all := lw_g (lw_at lw_m4 131 rfl) rfl
theorem q981 : (Jvm.Cond.lays "EarthMesh$Fault" "java/lang/Throwable" "depth" "I") ∈ lw_all := lw_g (lw_at lw_m4 132 rfl) rfl
theorem q982 : (Jvm.Cond.superclass "EarthMesh$Fault" "java/lang/Exception") ∈ lw_all := lw_g (lw_at lw_m4 133 rfl) rfl
theorem q2157 : (Jvm.Cond.castable "EarthMesh$Fault" "java/lang/Object") ∈ lw_tbl := lw_at lw_m9 108 rfl
theorem in_X8 : ∀ w ∈ wsX80, w ∈ lw_all := lw_in wsX80 [959, 960, 961, 962, 963, 981, 977, 979] (by decide +kernel) (by decide +kernel)
def RJ14 : String := "java/util/NoSuchElementException"
def TJ14 : u_T := fun k => match k with
  | 0 => ("java/lang/Throwable", "cause", "Ljava/lang/Throwable;", false)
  | 1 => ("java/lang/Throwable", "stackTrace", "[Ljava/lang/StackTraceElement;", false)
  | 2 => ("java/lang/Throwable", "suppressedExceptions", "Ljava/util/List;", false)
  | 3 => ("java/lang/Throwable", "detailMessage", "Ljava/lang/String;", false)
  | 4 => ("java/lang/Throwable", "backtrace", "Ljava/lang/Object;", false)
  | _ => ("java/lang/Throwable", "depth", "I", false)
def tyJ14 : Nat → FieldType := fun k => match k with
  | 0 => .object "java/lang/Throwable"
  | 1 => .array (.object "java/lang/StackTraceElement")
  | 2 => .object "java/util/List"
  | 3 => .object "java/lang/String"
  | 4 => .object "java/lang/Object"
  | _ => .int
abbrev wsJ140 : List Cond := u_ws RJ14 TJ14 6
theorem nmJ14 : ∀ a, a < 6 → ∀ b, b < 6 → a ≠ b → (TJ14 a).2.1 ≠ (TJ14 b).2.1 := by decide +kernel
theorem tyJ14_ok : ∀ k, k < 6 → parseFieldDescriptor (TJ14 k).2.2.1 = some (tyJ14 k) := by decide +kernel
abbrev cJ14_init : ByteArray := prog_45_method_1_code
def yJ14_init : MethodName := ⟨RJ14, "<init>", "()V"⟩
theorem q156 : (Jvm.Cond.initialized "java/util/NoSuchElementException") ∈ lw_all := lw_g (lw_at lw_m1 27 rfl) rfl
theorem q519 : (Jvm.Cond.selects "java/util/NoSuchElementException" ({ cls := "java/lang/Throwable", name := "fillInStackTrace", desc := "()Ljava/lang/Throwable;" } : Jvm.MethodName) ({ cls := "java/lang/Throwable", name := "fillInStackTrace", desc := "()Ljava/lang/Throwable;" } : Jvm.MethodName)) ∈ lw_all := lw_g (lw_at lw_m2 150 rfl) rfl
theorem q1086 : (Jvm.Cond.instantiable "java/util/NoSuchElementException" (6 : Nat)) ∈ lw_all := lw_g (lw_at lw_m4 237 rfl) rfl
theorem q1087 : (Jvm.Cond.castable "java/util/NoSuchElementException" "java/util/NoSuchElementException") ∈ lw_tbl := lw_at lw_m4 238 rfl
theorem q1088 : (Jvm.Cond.selects "java/util/NoSuchElementException" ({ cls := "java/lang/Throwable", name := "fillInStackTrace", desc := "(I)Ljava/lang/Throwable;" } : Jvm.MethodName) ({ cls := "java/lang/Throwable", name := "fillInStackTrace", desc := "(I)Ljava/lang/Throwable;" } : Jvm.MethodName)) ∈ lw_all := lw_g (lw_at lw_m4 239 rfl) rfl
theorem q1089 : (Jvm.Cond.lays "java/util/NoSuchElementException" "java/lang/Throwable" "cause" "Ljava/lang/Throwable;") ∈ lw_all := lw_g (lw_at lw_m5 0 rfl) rfl
theorem q1090 : (Jvm.Cond.lays "java/util/NoSuchElementException" "java/lang/Throwable" "stackTrace" "[Ljava/lang/StackTraceElement;") ∈ lw_all := lw_g (lw_at lw_m5 1 rfl) rfl
theorem q1091 : (Jvm.Cond.lays "java/util/NoSuchElementException" "java/lang/Throwable" "suppressedExceptions" "Ljava/util/List;") ∈ lw_all := lw_g (lw_at lw_m5 2 rfl) rfl
theorem q1092 : (Jvm.Cond.lays "java/util/NoSuchElementException" "java/lang/Throwable" "detailMessage" "Ljava/lang/String;") ∈ lw_all := lw_g (lw_at lw_m5 3 rfl) rfl
theorem q1093 : (Jvm.Cond.lays "java/util/NoSuchElementException" "java/lang/Throwable" "backtrace" "Ljava/lang/Object;") ∈ lw_all := lw_g (lw_at lw_m5 4 rfl) rfl
theorem q1095 : (Jvm.Cond.instanceMethod ({ cls := "java/util/NoSuchElementException", name := "<init>", desc := "()V" } : Jvm.MethodName)) ∈ lw_all := lw_g (lw_at lw_m5 6 rfl) rfl
theorem q1096 : (Jvm.Cond.code ({ cls := "java/util/NoSuchElementException", name := "<init>", desc := "()V" } : Jvm.MethodName) prog_45_method_1_code (1 : Nat) (Option.none : Option Jvm.ClassFile.FieldType)) ∈ lw_all := lw_g (lw_at lw_m5 7 rfl) rfl
theorem q1097 : (Jvm.Cond.methodLink "java/util/NoSuchElementException" (1 : Nat) ({ cls := "java/lang/RuntimeException", name := "<init>", desc := "()V" } : Jvm.MethodName)) ∈ lw_all := lw_g (lw_at lw_m5 8 rfl) rfl
theorem q1098 : (Jvm.Cond.lays "java/util/NoSuchElementException" "java/lang/Throwable" "depth" "I") ∈ lw_all := lw_g (lw_at lw_m5 9 rfl) rfl
theorem q1099 : (Jvm.Cond.superclass "java/util/NoSuchElementException" "java/lang/RuntimeException") ∈ lw_all := lw_g (lw_at lw_m5 10 rfl) rfl
theorem q2159 : (Jvm.Cond.castable "java/util/NoSuchElementException" "java/lang/Object") ∈ lw_tbl := lw_at lw_m9 110 rfl
theorem in_J14 : ∀ w ∈ wsJ140, w ∈ lw_all := lw_in wsJ140 [1089, 1090, 1091, 1092, 1093, 1098] (by decide +kernel) (by decide +kernel)
def RX9 : String := "EarthMesh$Floats"
def TX9 : u_T := fun k => match k with
  | 0 => ("java/lang/Throwable", "cause", "Ljava/lang/Throwable;", false)
  | 1 => ("java/lang/Throwable", "stackTrace", "[Ljava/lang/StackTraceElement;", false)
  | 2 => ("java/lang/Throwable", "suppressedExceptions", "Ljava/util/List;", false)
  | 3 => ("java/lang/Throwable", "detailMessage", "Ljava/lang/String;", false)
  | 4 => ("java/lang/Throwable", "backtrace", "Ljava/lang/Object;", false)
  | _ => ("java/lang/Throwable", "depth", "I", false)
def tyX9 : Nat → FieldType := fun k => match k with
  | 0 => .object "java/lang/Throwable"
  | 1 => .array (.object "java/lang/StackTraceElement")
  | 2 => .object "java/util/List"
  | 3 => .object "java/lang/String"
  | 4 => .object "java/lang/Object"
  | _ => .int
abbrev wsX90 : List Cond := u_ws RX9 TX9 6
theorem nmX9 : ∀ a, a < 6 → ∀ b, b < 6 → a ≠ b → (TX9 a).2.1 ≠ (TX9 b).2.1 := by decide +kernel
theorem tyX9_ok : ∀ k, k < 6 → parseFieldDescriptor (TX9 k).2.2.1 = some (tyX9 k) := by decide +kernel
abbrev cX9_init : ByteArray := prog_7_method_1_code
def yX9_init : MethodName := ⟨RX9, "<init>", "()V"⟩
theorem q157 : (Jvm.Cond.initialized "EarthMesh$Floats") ∈ lw_all := lw_g (lw_at lw_m1 28 rfl) rfl
theorem q515 : (Jvm.Cond.selects "EarthMesh$Floats" ({ cls := "java/lang/Throwable", name := "fillInStackTrace", desc := "()Ljava/lang/Throwable;" } : Jvm.MethodName) ({ cls := "java/lang/Throwable", name := "fillInStackTrace", desc := "()Ljava/lang/Throwable;" } : Jvm.MethodName)) ∈ lw_all := lw_g (lw_at lw_m2 146 rfl) rfl
theorem q1129 : (Jvm.Cond.instantiable "EarthMesh$Floats" (6 : Nat)) ∈ lw_all := lw_g (lw_at lw_m5 40 rfl) rfl
theorem q1130 : (Jvm.Cond.castable "EarthMesh$Floats" "EarthMesh$Floats") ∈ lw_tbl := lw_at lw_m5 41 rfl
theorem q1131 : (Jvm.Cond.selects "EarthMesh$Floats" ({ cls := "java/lang/Throwable", name := "fillInStackTrace", desc := "(I)Ljava/lang/Throwable;" } : Jvm.MethodName) ({ cls := "java/lang/Throwable", name := "fillInStackTrace", desc := "(I)Ljava/lang/Throwable;" } : Jvm.MethodName)) ∈ lw_all := lw_g (lw_at lw_m5 42 rfl) rfl
theorem q1132 : (Jvm.Cond.lays "EarthMesh$Floats" "java/lang/Throwable" "cause" "Ljava/lang/Throwable;") ∈ lw_all := lw_g (lw_at lw_m5 43 rfl) rfl
theorem q1133 : (Jvm.Cond.lays "EarthMesh$Floats" "java/lang/Throwable" "stackTrace" "[Ljava/lang/StackTraceElement;") ∈ lw_all := lw_g (lw_at lw_m5 44 rfl) rfl
theorem q1134 : (Jvm.Cond.lays "EarthMesh$Floats" "java/lang/Throwable" "suppressedExceptions" "Ljava/util/List;") ∈ lw_all := lw_g (lw_at lw_m5 45 rfl) rfl
theorem q1135 : (Jvm.Cond.lays "EarthMesh$Floats" "java/lang/Throwable" "detailMessage" "Ljava/lang/String;") ∈ lw_all := lw_g (lw_at lw_m5 46 rfl) rfl
theorem q1136 : (Jvm.Cond.lays "EarthMesh$Floats" "java/lang/Throwable" "backtrace" "Ljava/lang/Object;") ∈ lw_all := lw_g (lw_at lw_m5 47 rfl) rfl
theorem q1138 : (Jvm.Cond.instanceMethod ({ cls := "EarthMesh$Floats", name := "<init>", desc := "()V" } : Jvm.MethodName)) ∈ lw_all := lw_g (lw_at lw_m5 49 rfl) rfl
theorem q1139 : (Jvm.Cond.code ({ cls := "EarthMesh$Floats", name := "<init>", desc := "()V" } : Jvm.MethodName) prog_7_method_1_code (1 : Nat) (Option.none : Option Jvm.ClassFile.FieldType)) ∈ lw_all := lw_g (lw_at lw_m5 50 rfl) rfl
theorem q1140 : (Jvm.Cond.stringRef "EarthMesh$Floats" (1 : Nat) "it floats") ∈ lw_tbl := lw_at lw_m5 51 rfl
theorem q1141 : (Jvm.Cond.methodLink "EarthMesh$Floats" (3 : Nat) ({ cls := "java/lang/Exception", name := "<init>", desc := "(Ljava/lang/String;Ljava/lang/Throwable;ZZ)V" } : Jvm.MethodName)) ∈ lw_all := lw_g (lw_at lw_m5 52 rfl) rfl
theorem q1142 : (Jvm.Cond.lays "EarthMesh$Floats" "java/lang/Throwable" "depth" "I") ∈ lw_all := lw_g (lw_at lw_m5 53 rfl) rfl
theorem q1143 : (Jvm.Cond.superclass "EarthMesh$Floats" "java/lang/Exception") ∈ lw_all := lw_g (lw_at lw_m5 54 rfl) rfl
theorem q2160 : (Jvm.Cond.castable "EarthMesh$Floats" "java/lang/Object") ∈ lw_tbl := lw_at lw_m9 111 rfl
theorem in_X9 : ∀ w ∈ wsX90, w ∈ lw_all := lw_in wsX90 [1132, 1133, 1134, 1135, 1136, 1142] (by decide +kernel) (by decide +kernel)
def RX10 : String := "EarthMesh$Part"
def TX10 : u_T := fun k => match k with
  | 0 => ("EarthMesh$Part", "above", "J", true)
  | _ => ("EarthMesh$Part", "below", "J", true)
def tyX10 : Nat → FieldType := fun k => match k with
  | 0 => .long
  | _ => .long
abbrev wsX100 : List Cond := u_ws RX10 TX10 2
theorem nmX10 : ∀ a, a < 2 → ∀ b, b < 2 → a ≠ b → (TX10 a).2.1 ≠ (TX10 b).2.1 := by decide +kernel
theorem tyX10_ok : ∀ k, k < 2 → parseFieldDescriptor (TX10 k).2.2.1 = some (tyX10 k) := by decide +kernel
abbrev cX10_init : ByteArray := prog_10_method_1_code
def yX10_init : MethodName := ⟨RX10, "<init>", "(JJ)V"⟩
abbrev cX10_common : ByteArray := prog_10_method_2_code
def yX10_common : MethodName := ⟨RX10, "common", "(JJ)J"⟩
abbrev cX10_isMore : ByteArray := prog_10_method_4_code
def yX10_isMore : MethodName := ⟨RX10, "isMore", "(LEarthMesh$Part;)Z"⟩
abbrev cX10_compare : ByteArray := prog_10_method_5_code
def yX10_compare : MethodName := ⟨RX10, "compare", "(JJJJ)I"⟩
abbrev cX10_told : ByteArray := prog_10_method_3_code
def yX10_told : MethodName := ⟨RX10, "told", "(Z)J"⟩
theorem q158 : (Jvm.Cond.initialized "EarthMesh$Part") ∈ lw_all := lw_g (lw_at lw_m1 29 rfl) rfl
theorem q1235 : (Jvm.Cond.instantiable "EarthMesh$Part" (2 : Nat)) ∈ lw_all := lw_g (lw_at lw_m5 146 rfl) rfl
theorem q1241 : (Jvm.Cond.instanceMethod ({ cls := "EarthMesh$Part", name := "<init>", desc := "(JJ)V" } : Jvm.MethodName)) ∈ lw_all := lw_g (lw_at lw_m5 152 rfl) rfl
theorem q1242 : (Jvm.Cond.code ({ cls := "EarthMesh$Part", name := "<init>", desc := "(JJ)V" } : Jvm.MethodName) prog_10_method_1_code (7 : Nat) (Option.none : Option Jvm.ClassFile.FieldType)) ∈ lw_all := lw_g (lw_at lw_m5 153 rfl) rfl
theorem q1243 : (Jvm.Cond.methodLink "EarthMesh$Part" (1 : Nat) ({ cls := "java/lang/Object", name := "<init>", desc := "()V" } : Jvm.MethodName)) ∈ lw_all := lw_g (lw_at lw_m5 154 rfl) rfl
theorem q1244 : (Jvm.Cond.methodLink "EarthMesh$Part" (7 : Nat) ({ cls := "java/lang/Math", name := "abs", desc := "(J)J" } : Jvm.MethodName)) ∈ lw_all := lw_g (lw_at lw_m5 155 rfl) rfl
theorem q1245 : (Jvm.Cond.methodLink "EarthMesh$Part" (13 : Nat) ({ cls := "EarthMesh$Part", name := "common", desc := "(JJ)J" } : Jvm.MethodName)) ∈ lw_all := lw_g (lw_at lw_m5 156 rfl) rfl
theorem q1246 : (Jvm.Cond.static ({ cls := "EarthMesh$Part", name := "common", desc := "(JJ)J" } : Jvm.MethodName)) ∈ lw_all := lw_g (lw_at lw_m5 157 rfl) rfl
theorem q1247 : (Jvm.Cond.code ({ cls := "EarthMesh$Part", name := "common", desc := "(JJ)J" } : Jvm.MethodName) prog_10_method_2_code (4 : Nat) (Option.some Jvm.ClassFile.FieldType.long)) ∈ lw_all := lw_g (lw_at lw_m5 158 rfl) rfl
theorem q1248 : (Jvm.Cond.fieldLink "EarthMesh$Part" (19 : Nat) "EarthMesh$Part" "above" "J") ∈ lw_all := lw_g (lw_at lw_m5 159 rfl) rfl
theorem q1249 : (Jvm.Cond.fieldLink "EarthMesh$Part" (23 : Nat) "EarthMesh$Part" "below" "J") ∈ lw_all := lw_g (lw_at lw_m5 160 rfl) rfl
theorem q1250 : (Jvm.Cond.laysFinal "EarthMesh$Part" "EarthMesh$Part" "above" "J") ∈ lw_all := lw_g (lw_at lw_m5 161 rfl) rfl
theorem q1251 : (Jvm.Cond.soleField "EarthMesh$Part" "above") ∈ lw_all := lw_g (lw_at lw_m5 162 rfl) rfl
theorem q1252 : (Jvm.Cond.laysFinal "EarthMesh$Part" "EarthMesh$Part" "below" "J") ∈ lw_all := lw_g (lw_at lw_m5 163 rfl) rfl
theorem q1253 : (Jvm.Cond.soleField "EarthMesh$Part" "below") ∈ lw_all := lw_g (lw_at lw_m5 164 rfl) rfl
theorem q1254 : (Jvm.Cond.superclass "EarthMesh$Part" "java/lang/Object") ∈ lw_all := lw_g (lw_at lw_m5 165 rfl) rfl
theorem q1259 : (Jvm.Cond.instanceMethod ({ cls := "EarthMesh$Part", name := "isMore", desc := "(LEarthMesh$Part;)Z" } : Jvm.MethodName)) ∈ lw_all := lw_g (lw_at lw_m5 170 rfl) rfl
theorem q1260 : (Jvm.Cond.selects "EarthMesh$Part" ({ cls := "EarthMesh$Part", name := "isMore", desc := "(LEarthMesh$Part;)Z" } : Jvm.MethodName) ({ cls := "EarthMesh$Part", name := "isMore", desc := "(LEarthMesh$Part;)Z" } : Jvm.MethodName)) ∈ lw_all := lw_g (lw_at lw_m5 171 rfl) rfl
theorem q1261 : (Jvm.Cond.code ({ cls := "EarthMesh$Part", name := "isMore", desc := "(LEarthMesh$Part;)Z" } : Jvm.MethodName) prog_10_method_4_code (2 : Nat) (Option.some Jvm.ClassFile.FieldType.boolean)) ∈ lw_all := lw_g (lw_at lw_m5 172 rfl) rfl
theorem q1262 : (Jvm.Cond.methodLink "EarthMesh$Part" (26 : Nat) ({ cls := "EarthMesh$Part", name := "compare", desc := "(JJJJ)I" } : Jvm.MethodName)) ∈ lw_all := lw_g (lw_at lw_m5 173 rfl) rfl
theorem q1263 : (Jvm.Cond.static ({ cls := "EarthMesh$Part", name := "compare", desc := "(JJJJ)I" } : Jvm.MethodName)) ∈ lw_all := lw_g (lw_at lw_m5 174 rfl) rfl
theorem q1264 : (Jvm.Cond.code ({ cls := "EarthMesh$Part", name := "compare", desc := "(JJJJ)I" } : Jvm.MethodName) prog_10_method_5_code (12 : Nat) (Option.some Jvm.ClassFile.FieldType.int)) ∈ lw_all := lw_g (lw_at lw_m5 175 rfl) rfl
theorem q1265 : (Jvm.Cond.methodLink "EarthMesh$Part" (30 : Nat) ({ cls := "java/lang/Long", name := "compare", desc := "(JJ)I" } : Jvm.MethodName)) ∈ lw_all := lw_g (lw_at lw_m5 176 rfl) rfl
theorem q1343 : (Jvm.Cond.instanceMethod ({ cls := "EarthMesh$Part", name := "told", desc := "(Z)J" } : Jvm.MethodName)) ∈ lw_all := lw_g (lw_at lw_m6 14 rfl) rfl
theorem q1344 : (Jvm.Cond.selects "EarthMesh$Part" ({ cls := "EarthMesh$Part", name := "told", desc := "(Z)J" } : Jvm.MethodName) ({ cls := "EarthMesh$Part", name := "told", desc := "(Z)J" } : Jvm.MethodName)) ∈ lw_all := lw_g (lw_at lw_m6 15 rfl) rfl
theorem q1345 : (Jvm.Cond.code ({ cls := "EarthMesh$Part", name := "told", desc := "(Z)J" } : Jvm.MethodName) prog_10_method_3_code (2 : Nat) (Option.some Jvm.ClassFile.FieldType.long)) ∈ lw_all := lw_g (lw_at lw_m6 16 rfl) rfl
theorem q2161 : (Jvm.Cond.castable "EarthMesh$Part" "java/lang/Object") ∈ lw_tbl := lw_at lw_m9 112 rfl
theorem in_X10 : ∀ w ∈ wsX100, w ∈ lw_all := lw_in wsX100 [1250, 1252] (by decide +kernel) (by decide +kernel)
def RJ15 : String := "java/lang/Long"
abbrev cJ15_compare : ByteArray := prog_31_method_42_code
def yJ15_compare : MethodName := ⟨RJ15, "compare", "(JJ)I"⟩
abbrev cJ15_numberOfTrailingZeros : ByteArray := prog_31_method_49_code
def yJ15_numberOfTrailingZeros : MethodName := ⟨RJ15, "numberOfTrailingZeros", "(J)I"⟩
theorem q159 : (Jvm.Cond.initialized "java/lang/Long") ∈ lw_all := lw_g (lw_at lw_m1 30 rfl) rfl
theorem q1266 : (Jvm.Cond.static ({ cls := "java/lang/Long", name := "compare", desc := "(JJ)I" } : Jvm.MethodName)) ∈ lw_all := lw_g (lw_at lw_m5 177 rfl) rfl
theorem q1267 : (Jvm.Cond.code ({ cls := "java/lang/Long", name := "compare", desc := "(JJ)I" } : Jvm.MethodName) prog_31_method_42_code (4 : Nat) (Option.some Jvm.ClassFile.FieldType.int)) ∈ lw_all := lw_g (lw_at lw_m5 178 rfl) rfl
theorem q1882 : (Jvm.Cond.static ({ cls := "java/lang/Long", name := "numberOfTrailingZeros", desc := "(J)I" } : Jvm.MethodName)) ∈ lw_all := lw_g (lw_at lw_m8 73 rfl) rfl
theorem q1883 : (Jvm.Cond.code ({ cls := "java/lang/Long", name := "numberOfTrailingZeros", desc := "(J)I" } : Jvm.MethodName) prog_31_method_49_code (3 : Nat) (Option.some Jvm.ClassFile.FieldType.int)) ∈ lw_all := lw_g (lw_at lw_m8 74 rfl) rfl
theorem q1884 : (Jvm.Cond.methodLink "java/lang/Long" (311 : Nat) ({ cls := "java/lang/Integer", name := "numberOfTrailingZeros", desc := "(I)I" } : Jvm.MethodName)) ∈ lw_all := lw_g (lw_at lw_m8 75 rfl) rfl
def RJ16 : String := "java/lang/IllegalStateException"
def TJ16 : u_T := fun k => match k with
  | 0 => ("java/lang/Throwable", "cause", "Ljava/lang/Throwable;", false)
  | 1 => ("java/lang/Throwable", "stackTrace", "[Ljava/lang/StackTraceElement;", false)
  | 2 => ("java/lang/Throwable", "suppressedExceptions", "Ljava/util/List;", false)
  | 3 => ("java/lang/Throwable", "detailMessage", "Ljava/lang/String;", false)
  | 4 => ("java/lang/Throwable", "backtrace", "Ljava/lang/Object;", false)
  | _ => ("java/lang/Throwable", "depth", "I", false)
def tyJ16 : Nat → FieldType := fun k => match k with
  | 0 => .object "java/lang/Throwable"
  | 1 => .array (.object "java/lang/StackTraceElement")
  | 2 => .object "java/util/List"
  | 3 => .object "java/lang/String"
  | 4 => .object "java/lang/Object"
  | _ => .int
abbrev wsJ160 : List Cond := u_ws RJ16 TJ16 6
theorem nmJ16 : ∀ a, a < 6 → ∀ b, b < 6 → a ≠ b → (TJ16 a).2.1 ≠ (TJ16 b).2.1 := by decide +kernel
theorem tyJ16_ok : ∀ k, k < 6 → parseFieldDescriptor (TJ16 k).2.2.1 = some (tyJ16 k) := by decide +kernel
abbrev cJ16_init : ByteArray := prog_29_method_1_code
def yJ16_init : MethodName := ⟨RJ16, "<init>", "()V"⟩
theorem q160 : (Jvm.Cond.initialized "java/lang/IllegalStateException") ∈ lw_all := lw_g (lw_at lw_m1 31 rfl) rfl
theorem q518 : (Jvm.Cond.selects "java/lang/IllegalStateException" ({ cls := "java/lang/Throwable", name := "fillInStackTrace", desc := "()Ljava/lang/Throwable;" } : Jvm.MethodName) ({ cls := "java/lang/Throwable", name := "fillInStackTrace", desc := "()Ljava/lang/Throwable;" } : Jvm.MethodName)) ∈ lw_all := lw_g (lw_at lw_m2 149 rfl) rfl
theorem q1328 : (Jvm.Cond.instantiable "java/lang/IllegalStateException" (6 : Nat)) ∈ lw_all := lw_g (lw_at lw_m5 239 rfl) rfl
theorem q1329 : (Jvm.Cond.castable "java/lang/IllegalStateException" "java/lang/IllegalStateException") ∈ lw_tbl := lw_at lw_m6 0 rfl
theorem q1330 : (Jvm.Cond.selects "java/lang/IllegalStateException" ({ cls := "java/lang/Throwable", name := "fillInStackTrace", desc := "(I)Ljava/lang/Throwable;" } : Jvm.MethodName) ({ cls := "java/lang/Throwable", name := "fillInStackTrace", desc := "(I)Ljava/lang/Throwable;" } : Jvm.MethodName)) ∈ lw_all := lw_g (lw_at lw_m6 1 rfl) rfl
theorem q1331 : (Jvm.Cond.lays "java/lang/IllegalStateException" "java/lang/Throwable" "cause" "Ljava/lang/Throwable;") ∈ lw_all := lw_g (lw_at lw_m6 2 rfl) rfl
theorem q1332 : (Jvm.Cond.lays "java/lang/IllegalStateException" "java/lang/Throwable" "stackTrace" "[Ljava/lang/StackTraceElement;") ∈ lw_all := lw_g (lw_at lw_m6 3 rfl) rfl
theorem q1333 : (Jvm.Cond.lays "java/lang/IllegalStateException" "java/lang/Throwable" "suppressedExceptions" "Ljava/util/List;") ∈ lw_all := lw_g (lw_at lw_m6 4 rfl) rfl
theorem q1334 : (Jvm.Cond.lays "java/lang/IllegalStateException" "java/lang/Throwable" "detailMessage" "Ljava/lang/String;") ∈ lw_all := lw_g (lw_at lw_m6 5 rfl) rfl
theorem q1335 : (Jvm.Cond.lays "java/lang/IllegalStateException" "java/lang/Throwable" "backtrace" "Ljava/lang/Object;") ∈ lw_all := lw_g (lw_at lw_m6 6 rfl) rfl
theorem q1337 : (Jvm.Cond.instanceMethod ({ cls := "java/lang/IllegalStateException", name := "<init>", desc := "()V" } : Jvm.MethodName)) ∈ lw_all := lw_g (lw_at lw_m6 8 rfl) rfl
theorem q1338 : (Jvm.Cond.code ({ cls := "java/lang/IllegalStateException", name := "<init>", desc := "()V" } : Jvm.MethodName) prog_29_method_1_code (1 : Nat) (Option.none : Option Jvm.ClassFile.FieldType)) ∈ lw_all := lw_g (lw_at lw_m6 9 rfl) rfl
theorem q1339 : (Jvm.Cond.methodLink "java/lang/IllegalStateException" (1 : Nat) ({ cls := "java/lang/RuntimeException", name := "<init>", desc := "()V" } : Jvm.MethodName)) ∈ lw_all := lw_g (lw_at lw_m6 10 rfl) rfl
theorem q1340 : (Jvm.Cond.lays "java/lang/IllegalStateException" "java/lang/Throwable" "depth" "I") ∈ lw_all := lw_g (lw_at lw_m6 11 rfl) rfl
theorem q1341 : (Jvm.Cond.superclass "java/lang/IllegalStateException" "java/lang/RuntimeException") ∈ lw_all := lw_g (lw_at lw_m6 12 rfl) rfl
theorem q2162 : (Jvm.Cond.castable "java/lang/IllegalStateException" "java/lang/Object") ∈ lw_tbl := lw_at lw_m9 113 rfl
theorem in_J16 : ∀ w ∈ wsJ160, w ∈ lw_all := lw_in wsJ160 [1331, 1332, 1333, 1334, 1335, 1340] (by decide +kernel) (by decide +kernel)
def RJ17 : String := "java/lang/Double"
abbrev cJ17_doubleToLongBits : ByteArray := prog_24_method_23_code
def yJ17_doubleToLongBits : MethodName := ⟨RJ17, "doubleToLongBits", "(D)J"⟩
abbrev cJ17_isNaN : ByteArray := prog_24_method_6_code
def yJ17_isNaN : MethodName := ⟨RJ17, "isNaN", "(D)Z"⟩
theorem q161 : (Jvm.Cond.initialized "java/lang/Double") ∈ lw_all := lw_g (lw_at lw_m1 32 rfl) rfl
theorem q1363 : (Jvm.Cond.static ({ cls := "java/lang/Double", name := "doubleToLongBits", desc := "(D)J" } : Jvm.MethodName)) ∈ lw_all := lw_g (lw_at lw_m6 34 rfl) rfl
theorem q1364 : (Jvm.Cond.code ({ cls := "java/lang/Double", name := "doubleToLongBits", desc := "(D)J" } : Jvm.MethodName) prog_24_method_23_code (2 : Nat) (Option.some Jvm.ClassFile.FieldType.long)) ∈ lw_all := lw_g (lw_at lw_m6 35 rfl) rfl
theorem q1365 : (Jvm.Cond.methodLink "java/lang/Double" (122 : Nat) ({ cls := "java/lang/Double", name := "isNaN", desc := "(D)Z" } : Jvm.MethodName)) ∈ lw_all := lw_g (lw_at lw_m6 36 rfl) rfl
theorem q1366 : (Jvm.Cond.static ({ cls := "java/lang/Double", name := "isNaN", desc := "(D)Z" } : Jvm.MethodName)) ∈ lw_all := lw_g (lw_at lw_m6 37 rfl) rfl
theorem q1367 : (Jvm.Cond.code ({ cls := "java/lang/Double", name := "isNaN", desc := "(D)Z" } : Jvm.MethodName) prog_24_method_6_code (2 : Nat) (Option.some Jvm.ClassFile.FieldType.boolean)) ∈ lw_all := lw_g (lw_at lw_m6 38 rfl) rfl
theorem q1368 : (Jvm.Cond.methodLink "java/lang/Double" (134 : Nat) ({ cls := "java/lang/Double", name := "doubleToRawLongBits", desc := "(D)J" } : Jvm.MethodName)) ∈ lw_all := lw_g (lw_at lw_m6 39 rfl) rfl
theorem q1369 : (Jvm.Cond.static ({ cls := "java/lang/Double", name := "doubleToRawLongBits", desc := "(D)J" } : Jvm.MethodName)) ∈ lw_all := lw_g (lw_at lw_m6 40 rfl) rfl
theorem q1370 : (Jvm.Cond.native ({ cls := "java/lang/Double", name := "doubleToRawLongBits", desc := "(D)J" } : Jvm.MethodName)) ∈ lw_all := lw_g (lw_at lw_m6 41 rfl) rfl
theorem q1371 : (Jvm.Cond.constantLong "java/lang/Double" (137 : Nat) (9221120237041090560 : Int64)) ∈ lw_all := lw_g (lw_at lw_m6 42 rfl) rfl
def RJ18 : String := "java/lang/Float"
abbrev cJ18_floatToIntBits : ByteArray := prog_27_method_24_code
def yJ18_floatToIntBits : MethodName := ⟨RJ18, "floatToIntBits", "(F)I"⟩
abbrev cJ18_isNaN : ByteArray := prog_27_method_6_code
def yJ18_isNaN : MethodName := ⟨RJ18, "isNaN", "(F)Z"⟩
theorem q162 : (Jvm.Cond.initialized "java/lang/Float") ∈ lw_all := lw_g (lw_at lw_m1 33 rfl) rfl
theorem q1373 : (Jvm.Cond.static ({ cls := "java/lang/Float", name := "floatToIntBits", desc := "(F)I" } : Jvm.MethodName)) ∈ lw_all := lw_g (lw_at lw_m6 44 rfl) rfl
theorem q1374 : (Jvm.Cond.code ({ cls := "java/lang/Float", name := "floatToIntBits", desc := "(F)I" } : Jvm.MethodName) prog_27_method_24_code (1 : Nat) (Option.some Jvm.ClassFile.FieldType.int)) ∈ lw_all := lw_g (lw_at lw_m6 45 rfl) rfl
theorem q1375 : (Jvm.Cond.methodLink "java/lang/Float" (59 : Nat) ({ cls := "java/lang/Float", name := "isNaN", desc := "(F)Z" } : Jvm.MethodName)) ∈ lw_all := lw_g (lw_at lw_m6 46 rfl) rfl
theorem q1376 : (Jvm.Cond.static ({ cls := "java/lang/Float", name := "isNaN", desc := "(F)Z" } : Jvm.MethodName)) ∈ lw_all := lw_g (lw_at lw_m6 47 rfl) rfl
theorem q1377 : (Jvm.Cond.code ({ cls := "java/lang/Float", name := "isNaN", desc := "(F)Z" } : Jvm.MethodName) prog_27_method_6_code (1 : Nat) (Option.some Jvm.ClassFile.FieldType.boolean)) ∈ lw_all := lw_g (lw_at lw_m6 48 rfl) rfl
theorem q1378 : (Jvm.Cond.methodLink "java/lang/Float" (74 : Nat) ({ cls := "java/lang/Float", name := "floatToRawIntBits", desc := "(F)I" } : Jvm.MethodName)) ∈ lw_all := lw_g (lw_at lw_m6 49 rfl) rfl
theorem q1379 : (Jvm.Cond.static ({ cls := "java/lang/Float", name := "floatToRawIntBits", desc := "(F)I" } : Jvm.MethodName)) ∈ lw_all := lw_g (lw_at lw_m6 50 rfl) rfl
theorem q1380 : (Jvm.Cond.native ({ cls := "java/lang/Float", name := "floatToRawIntBits", desc := "(F)I" } : Jvm.MethodName)) ∈ lw_all := lw_g (lw_at lw_m6 51 rfl) rfl
theorem q1381 : (Jvm.Cond.constant "java/lang/Float" (77 : Nat) (2143289344 : Int32)) ∈ lw_all := lw_g (lw_at lw_m6 52 rfl) rfl
def RX11 : String := "EarthMesh$Bar"
def TX11 : u_T := fun k => match k with
  | _ => ("EarthMesh$Bar", "size", "I", true)
def tyX11 : Nat → FieldType := fun k => match k with
  | _ => .int
abbrev wsX110 : List Cond := u_ws RX11 TX11 1
theorem nmX11 : ∀ a, a < 1 → ∀ b, b < 1 → a ≠ b → (TX11 a).2.1 ≠ (TX11 b).2.1 := by decide +kernel
theorem tyX11_ok : ∀ k, k < 1 → parseFieldDescriptor (TX11 k).2.2.1 = some (tyX11 k) := by decide +kernel
abbrev cX11_init : ByteArray := prog_2_method_1_code
def yX11_init : MethodName := ⟨RX11, "<init>", "(I)V"⟩
theorem q163 : (Jvm.Cond.initialized "EarthMesh$Bar") ∈ lw_all := lw_g (lw_at lw_m1 34 rfl) rfl
theorem q468 : (Jvm.Cond.instantiable "EarthMesh$Bar" (1 : Nat)) ∈ lw_all := lw_g (lw_at lw_m2 99 rfl) rfl
theorem q470 : (Jvm.Cond.instanceMethod ({ cls := "EarthMesh$Bar", name := "<init>", desc := "(I)V" } : Jvm.MethodName)) ∈ lw_all := lw_g (lw_at lw_m2 101 rfl) rfl
theorem q471 : (Jvm.Cond.code ({ cls := "EarthMesh$Bar", name := "<init>", desc := "(I)V" } : Jvm.MethodName) prog_2_method_1_code (2 : Nat) (Option.none : Option Jvm.ClassFile.FieldType)) ∈ lw_all := lw_g (lw_at lw_m2 102 rfl) rfl
theorem q472 : (Jvm.Cond.methodLink "EarthMesh$Bar" (1 : Nat) ({ cls := "java/lang/Object", name := "<init>", desc := "()V" } : Jvm.MethodName)) ∈ lw_all := lw_g (lw_at lw_m2 103 rfl) rfl
theorem q473 : (Jvm.Cond.fieldLink "EarthMesh$Bar" (7 : Nat) "EarthMesh$Bar" "size" "I") ∈ lw_all := lw_g (lw_at lw_m2 104 rfl) rfl
theorem q475 : (Jvm.Cond.laysFinal "EarthMesh$Bar" "EarthMesh$Bar" "size" "I") ∈ lw_all := lw_g (lw_at lw_m2 106 rfl) rfl
theorem q476 : (Jvm.Cond.soleField "EarthMesh$Bar" "size") ∈ lw_all := lw_g (lw_at lw_m2 107 rfl) rfl
theorem q477 : (Jvm.Cond.superclass "EarthMesh$Bar" "java/lang/Object") ∈ lw_all := lw_g (lw_at lw_m2 108 rfl) rfl
theorem q2163 : (Jvm.Cond.castable "EarthMesh$Bar" "java/lang/Object") ∈ lw_tbl := lw_at lw_m9 114 rfl
theorem in_X11 : ∀ w ∈ wsX110, w ∈ lw_all := lw_in wsX110 [475] (by decide +kernel) (by decide +kernel)
def RX12 : String := "EarthMesh$Rod"
def TX12 : u_T := fun k => match k with
  | _ => ("EarthMesh$Rod", "size", "I", true)
def tyX12 : Nat → FieldType := fun k => match k with
  | _ => .int
abbrev wsX120 : List Cond := u_ws RX12 TX12 1
theorem nmX12 : ∀ a, a < 1 → ∀ b, b < 1 → a ≠ b → (TX12 a).2.1 ≠ (TX12 b).2.1 := by decide +kernel
theorem tyX12_ok : ∀ k, k < 1 → parseFieldDescriptor (TX12 k).2.2.1 = some (tyX12 k) := by decide +kernel
abbrev cX12_init : ByteArray := prog_12_method_1_code
def yX12_init : MethodName := ⟨RX12, "<init>", "(I)V"⟩
theorem q164 : (Jvm.Cond.initialized "EarthMesh$Rod") ∈ lw_all := lw_g (lw_at lw_m1 35 rfl) rfl
theorem q479 : (Jvm.Cond.instantiable "EarthMesh$Rod" (1 : Nat)) ∈ lw_all := lw_g (lw_at lw_m2 110 rfl) rfl
theorem q481 : (Jvm.Cond.instanceMethod ({ cls := "EarthMesh$Rod", name := "<init>", desc := "(I)V" } : Jvm.MethodName)) ∈ lw_all := lw_g (lw_at lw_m2 112 rfl) rfl
theorem q482 : (Jvm.Cond.code ({ cls := "EarthMesh$Rod", name := "<init>", desc := "(I)V" } : Jvm.MethodName) prog_12_method_1_code (2 : Nat) (Option.none : Option Jvm.ClassFile.FieldType)) ∈ lw_all := lw_g (lw_at lw_m2 113 rfl) rfl
theorem q483 : (Jvm.Cond.methodLink "EarthMesh$Rod" (1 : Nat) ({ cls := "java/lang/Object", name := "<init>", desc := "()V" } : Jvm.MethodName)) ∈ lw_all := lw_g (lw_at lw_m2 114 rfl) rfl
theorem q484 : (Jvm.Cond.fieldLink "EarthMesh$Rod" (7 : Nat) "EarthMesh$Rod" "size" "I") ∈ lw_all := lw_g (lw_at lw_m2 115 rfl) rfl
theorem q486 : (Jvm.Cond.laysFinal "EarthMesh$Rod" "EarthMesh$Rod" "size" "I") ∈ lw_all := lw_g (lw_at lw_m2 117 rfl) rfl
theorem q487 : (Jvm.Cond.soleField "EarthMesh$Rod" "size") ∈ lw_all := lw_g (lw_at lw_m2 118 rfl) rfl
theorem q488 : (Jvm.Cond.superclass "EarthMesh$Rod" "java/lang/Object") ∈ lw_all := lw_g (lw_at lw_m2 119 rfl) rfl
theorem q2164 : (Jvm.Cond.castable "EarthMesh$Rod" "java/lang/Object") ∈ lw_tbl := lw_at lw_m9 115 rfl
theorem in_X12 : ∀ w ∈ wsX120, w ∈ lw_all := lw_in wsX120 [486] (by decide +kernel) (by decide +kernel)
def RJ19 : String := "java/lang/ArrayStoreException"
def TJ19 : u_T := fun k => match k with
  | 0 => ("java/lang/Throwable", "backtrace", "Ljava/lang/Object;", false)
  | 1 => ("java/lang/Throwable", "detailMessage", "Ljava/lang/String;", false)
  | 2 => ("java/lang/Throwable", "cause", "Ljava/lang/Throwable;", false)
  | 3 => ("java/lang/Throwable", "stackTrace", "[Ljava/lang/StackTraceElement;", false)
  | 4 => ("java/lang/Throwable", "depth", "I", false)
  | _ => ("java/lang/Throwable", "suppressedExceptions", "Ljava/util/List;", false)
def tyJ19 : Nat → FieldType := fun k => match k with
  | 0 => .object "java/lang/Object"
  | 1 => .object "java/lang/String"
  | 2 => .object "java/lang/Throwable"
  | 3 => .array (.object "java/lang/StackTraceElement")
  | 4 => .int
  | _ => .object "java/util/List"
abbrev wsJ190 : List Cond := u_ws RJ19 TJ19 6
theorem nmJ19 : ∀ a, a < 6 → ∀ b, b < 6 → a ≠ b → (TJ19 a).2.1 ≠ (TJ19 b).2.1 := by decide +kernel
theorem tyJ19_ok : ∀ k, k < 6 → parseFieldDescriptor (TJ19 k).2.2.1 = some (tyJ19 k) := by decide +kernel
abbrev cJ19_init : ByteArray := prog_20_method_2_code
def yJ19_init : MethodName := ⟨RJ19, "<init>", "(Ljava/lang/String;)V"⟩
theorem q165 : (Jvm.Cond.initialized "java/lang/ArrayStoreException") ∈ lw_all := lw_g (lw_at lw_m1 36 rfl) rfl
theorem q494 : (Jvm.Cond.instantiable "java/lang/ArrayStoreException" (6 : Nat)) ∈ lw_all := lw_g (lw_at lw_m2 125 rfl) rfl
theorem q495 : (Jvm.Cond.instanceMethod ({ cls := "java/lang/ArrayStoreException", name := "<init>", desc := "(Ljava/lang/String;)V" } : Jvm.MethodName)) ∈ lw_all := lw_g (lw_at lw_m2 126 rfl) rfl
theorem q496 : (Jvm.Cond.code ({ cls := "java/lang/ArrayStoreException", name := "<init>", desc := "(Ljava/lang/String;)V" } : Jvm.MethodName) prog_20_method_2_code (2 : Nat) (Option.none : Option Jvm.ClassFile.FieldType)) ∈ lw_all := lw_g (lw_at lw_m2 127 rfl) rfl
theorem q497 : (Jvm.Cond.methodLink "java/lang/ArrayStoreException" (7 : Nat) ({ cls := "java/lang/RuntimeException", name := "<init>", desc := "(Ljava/lang/String;)V" } : Jvm.MethodName)) ∈ lw_all := lw_g (lw_at lw_m2 128 rfl) rfl
theorem q516 : (Jvm.Cond.selects "java/lang/ArrayStoreException" ({ cls := "java/lang/Throwable", name := "fillInStackTrace", desc := "()Ljava/lang/Throwable;" } : Jvm.MethodName) ({ cls := "java/lang/Throwable", name := "fillInStackTrace", desc := "()Ljava/lang/Throwable;" } : Jvm.MethodName)) ∈ lw_all := lw_g (lw_at lw_m2 147 rfl) rfl
theorem q531 : (Jvm.Cond.lays "java/lang/ArrayStoreException" "java/lang/Throwable" "backtrace" "Ljava/lang/Object;") ∈ lw_all := lw_g (lw_at lw_m2 162 rfl) rfl
theorem q533 : (Jvm.Cond.lays "java/lang/ArrayStoreException" "java/lang/Throwable" "detailMessage" "Ljava/lang/String;") ∈ lw_all := lw_g (lw_at lw_m2 164 rfl) rfl
theorem q535 : (Jvm.Cond.lays "java/lang/ArrayStoreException" "java/lang/Throwable" "cause" "Ljava/lang/Throwable;") ∈ lw_all := lw_g (lw_at lw_m2 166 rfl) rfl
theorem q537 : (Jvm.Cond.lays "java/lang/ArrayStoreException" "java/lang/Throwable" "stackTrace" "[Ljava/lang/StackTraceElement;") ∈ lw_all := lw_g (lw_at lw_m2 168 rfl) rfl
theorem q539 : (Jvm.Cond.lays "java/lang/ArrayStoreException" "java/lang/Throwable" "depth" "I") ∈ lw_all := lw_g (lw_at lw_m2 170 rfl) rfl
theorem q541 : (Jvm.Cond.lays "java/lang/ArrayStoreException" "java/lang/Throwable" "suppressedExceptions" "Ljava/util/List;") ∈ lw_all := lw_g (lw_at lw_m2 172 rfl) rfl
theorem q543 : (Jvm.Cond.superclass "java/lang/ArrayStoreException" "java/lang/RuntimeException") ∈ lw_all := lw_g (lw_at lw_m2 174 rfl) rfl
theorem q544 : (Jvm.Cond.castable "java/lang/ArrayStoreException" "java/lang/ArrayStoreException") ∈ lw_tbl := lw_at lw_m2 175 rfl
theorem q551 : (Jvm.Cond.selects "java/lang/ArrayStoreException" ({ cls := "java/lang/Throwable", name := "fillInStackTrace", desc := "(I)Ljava/lang/Throwable;" } : Jvm.MethodName) ({ cls := "java/lang/Throwable", name := "fillInStackTrace", desc := "(I)Ljava/lang/Throwable;" } : Jvm.MethodName)) ∈ lw_all := lw_g (lw_at lw_m2 182 rfl) rfl
theorem q2165 : (Jvm.Cond.castable "java/lang/ArrayStoreException" "java/lang/Object") ∈ lw_tbl := lw_at lw_m9 116 rfl
theorem in_J19 : ∀ w ∈ wsJ190, w ∈ lw_all := lw_in wsJ190 [531, 533, 535, 537, 539, 541] (by decide +kernel) (by decide +kernel)
def RJ20 : String := "java/lang/Object"
abbrev cJ20_init : ByteArray := object_method_1_code
def yJ20_init : MethodName := ⟨RJ20, "<init>", "()V"⟩
theorem q172 : (Jvm.Cond.instanceMethod ({ cls := "java/lang/Object", name := "<init>", desc := "()V" } : Jvm.MethodName)) ∈ lw_all := lw_g (lw_at lw_m1 43 rfl) rfl
theorem q173 : (Jvm.Cond.code ({ cls := "java/lang/Object", name := "<init>", desc := "()V" } : Jvm.MethodName) object_method_1_code (1 : Nat) (Option.none : Option Jvm.ClassFile.FieldType)) ∈ lw_all := lw_g (lw_at lw_m1 44 rfl) rfl
theorem q703 : (Jvm.Cond.native ({ cls := "java/lang/Object", name := "clone", desc := "()Ljava/lang/Object;" } : Jvm.MethodName)) ∈ lw_all := lw_g (lw_at lw_m3 94 rfl) rfl
theorem q704 : (Jvm.Cond.instanceMethod ({ cls := "java/lang/Object", name := "clone", desc := "()Ljava/lang/Object;" } : Jvm.MethodName)) ∈ lw_all := lw_g (lw_at lw_m3 95 rfl) rfl
theorem q2169 : (Jvm.Cond.instantiable "java/lang/Object" (0 : Nat)) ∈ lw_all := lw_g (lw_at lw_m9 120 rfl) rfl
def RJ21 : String := "java/lang/System$2"
abbrev cJ21_getUTF16Char : ByteArray := prog_40_method_45_code
def yJ21_getUTF16Char : MethodName := ⟨RJ21, "getUTF16Char", "([BI)C"⟩
theorem q1022 : (Jvm.Cond.castable "java/lang/System$2" "jdk/internal/access/JavaLangAccess") ∈ lw_tbl := lw_at lw_m4 173 rfl
theorem q1023 : (Jvm.Cond.selects "java/lang/System$2" ({ cls := "jdk/internal/access/JavaLangAccess", name := "getUTF16Char", desc := "([BI)C" } : Jvm.MethodName) ({ cls := "java/lang/System$2", name := "getUTF16Char", desc := "([BI)C" } : Jvm.MethodName)) ∈ lw_all := lw_g (lw_at lw_m4 174 rfl) rfl
theorem q1024 : (Jvm.Cond.unhidden "java/lang/System$2" "getUTF16Char" "([BI)C") ∈ lw_tbl := lw_at lw_m4 175 rfl
theorem q1025 : (Jvm.Cond.instanceMethod ({ cls := "java/lang/System$2", name := "getUTF16Char", desc := "([BI)C" } : Jvm.MethodName)) ∈ lw_all := lw_g (lw_at lw_m4 176 rfl) rfl
theorem q1026 : (Jvm.Cond.publicMethod ({ cls := "java/lang/System$2", name := "getUTF16Char", desc := "([BI)C" } : Jvm.MethodName)) ∈ lw_tbl := lw_at lw_m4 177 rfl
theorem q1027 : (Jvm.Cond.code ({ cls := "java/lang/System$2", name := "getUTF16Char", desc := "([BI)C" } : Jvm.MethodName) prog_40_method_45_code (3 : Nat) (Option.some Jvm.ClassFile.FieldType.char)) ∈ lw_all := lw_g (lw_at lw_m4 178 rfl) rfl
theorem q1028 : (Jvm.Cond.methodLink "java/lang/System$2" (185 : Nat) ({ cls := "java/lang/StringUTF16", name := "getChar", desc := "([BI)C" } : Jvm.MethodName)) ∈ lw_all := lw_g (lw_at lw_m4 179 rfl) rfl
theorem q2158 : (Jvm.Cond.castable "java/lang/System$2" "java/lang/Object") ∈ lw_tbl := lw_at lw_m9 109 rfl
abbrev cL_law : ByteArray := code
theorem q181 : (Jvm.Cond.arrayOver (Jvm.ClassFile.FieldType.array Jvm.ClassFile.FieldType.int)) ∈ lw_tbl := lw_at lw_m1 52 rfl
theorem q238 : (Jvm.Cond.arrayClass Jvm.ClassFile.FieldType.int) ∈ lw_all := lw_g (lw_at lw_m1 109 rfl) rfl
theorem q246 : (Jvm.Cond.arrayOver (Jvm.ClassFile.FieldType.array Jvm.ClassFile.FieldType.long)) ∈ lw_tbl := lw_at lw_m1 117 rfl
theorem q273 : (Jvm.Cond.arrayClass Jvm.ClassFile.FieldType.long) ∈ lw_all := lw_g (lw_at lw_m1 144 rfl) rfl
theorem q304 : (Jvm.Cond.arrayOver (Jvm.ClassFile.FieldType.object "EarthMesh$Measure")) ∈ lw_tbl := lw_at lw_m1 175 rfl
theorem q350 : (Jvm.Cond.arrayOver (Jvm.ClassFile.FieldType.object "EarthMesh$Rod")) ∈ lw_tbl := lw_at lw_m1 221 rfl
theorem q352 : (Jvm.Cond.arrayOver (Jvm.ClassFile.FieldType.object "EarthMesh$Bar")) ∈ lw_tbl := lw_at lw_m1 223 rfl
theorem q357 : (Jvm.Cond.arrayClass Jvm.ClassFile.FieldType.byte) ∈ lw_all := lw_g (lw_at lw_m1 228 rfl) rfl
theorem q358 : (Jvm.Cond.arrayClass Jvm.ClassFile.FieldType.boolean) ∈ lw_all := lw_g (lw_at lw_m1 229 rfl) rfl
theorem q1600 : (Jvm.Cond.arrayOver (Jvm.ClassFile.FieldType.object "java/lang/String")) ∈ lw_tbl := lw_at lw_m7 31 rfl
theorem q2167 : (Jvm.Cond.arrayClass Jvm.ClassFile.FieldType.char) ∈ lw_all := lw_g (lw_at lw_m9 118 rfl) rfl
theorem q2168 : (Jvm.Cond.arrayClass Jvm.ClassFile.FieldType.short) ∈ lw_all := lw_g (lw_at lw_m9 119 rfl) rfl
theorem q142 : (Jvm.Cond.initialized "java/lang/Enum") ∈ lw_all := lw_g (lw_at lw_m1 13 rfl) rfl
theorem q143 : (Jvm.Cond.initialized "EarthMesh$Sort") ∈ lw_all := lw_g (lw_at lw_m1 14 rfl) rfl
theorem q629 : (Jvm.Cond.laysStatic "EarthMesh$Sort" "END" "LEarthMesh$Sort;") ∈ lw_tbl := lw_at lw_m3 20 rfl
theorem q901 : (Jvm.Cond.laysStatic "EarthMesh$Sort" "WORD" "LEarthMesh$Sort;") ∈ lw_tbl := lw_at lw_m4 52 rfl
theorem q908 : (Jvm.Cond.laysStatic "EarthMesh$Sort" "NUMBER" "LEarthMesh$Sort;") ∈ lw_tbl := lw_at lw_m4 59 rfl
theorem q910 : (Jvm.Cond.laysStatic "EarthMesh$Sort" "SIGN" "LEarthMesh$Sort;") ∈ lw_tbl := lw_at lw_m4 61 rfl
theorem q912 : (Jvm.Cond.laysStatic "EarthMesh$Sort" "BAD" "LEarthMesh$Sort;") ∈ lw_tbl := lw_at lw_m4 63 rfl
theorem q2154 : (Jvm.Cond.castable "EarthMesh$Sort" "java/lang/Object") ∈ lw_tbl := lw_at lw_m9 105 rfl
theorem q150 : (Jvm.Cond.initialized "java/lang/System") ∈ lw_all := lw_g (lw_at lw_m1 21 rfl) rfl
theorem q712 : (Jvm.Cond.static ({ cls := "java/lang/System", name := "arraycopy", desc := "(Ljava/lang/Object;ILjava/lang/Object;II)V" } : Jvm.MethodName)) ∈ lw_all := lw_g (lw_at lw_m3 103 rfl) rfl
theorem q713 : (Jvm.Cond.native ({ cls := "java/lang/System", name := "arraycopy", desc := "(Ljava/lang/Object;ILjava/lang/Object;II)V" } : Jvm.MethodName)) ∈ lw_all := lw_g (lw_at lw_m3 104 rfl) rfl
theorem q153 : (Jvm.Cond.initialized "java/lang/Number") ∈ lw_all := lw_g (lw_at lw_m1 24 rfl) rfl
theorem q702 : (Jvm.Cond.sameMethod "[B" "java/lang/Object" "clone" "()Ljava/lang/Object;") ∈ lw_all := lw_g (lw_at lw_m3 93 rfl) rfl
theorem q705 : (Jvm.Cond.selects "[B" ({ cls := "[B", name := "clone", desc := "()Ljava/lang/Object;" } : Jvm.MethodName) ({ cls := "java/lang/Object", name := "clone", desc := "()Ljava/lang/Object;" } : Jvm.MethodName)) ∈ lw_all := lw_g (lw_at lw_m3 96 rfl) rfl
theorem q706 : (Jvm.Cond.castable "[B" "java/lang/Cloneable") ∈ lw_tbl := lw_at lw_m3 97 rfl
theorem q1020 : (Jvm.Cond.interfaceMethod "jdk/internal/access/JavaLangAccess" "jdk/internal/access/JavaLangAccess" "getUTF16Char" "([BI)C") ∈ lw_tbl := lw_at lw_m4 171 rfl
theorem q1021 : (Jvm.Cond.declares ({ cls := "jdk/internal/access/JavaLangAccess", name := "getUTF16Char", desc := "([BI)C" } : Jvm.MethodName)) ∈ lw_tbl := lw_at lw_m4 172 rfl
theorem q1215 : (Jvm.Cond.interfaceMethod "EarthMesh$Measure" "EarthMesh$Measure" "of" "(I)J") ∈ lw_tbl := lw_at lw_m5 126 rfl
theorem q1216 : (Jvm.Cond.declares ({ cls := "EarthMesh$Measure", name := "of", desc := "(I)J" } : Jvm.MethodName)) ∈ lw_tbl := lw_at lw_m5 127 rfl
theorem q1305 : (Jvm.Cond.sameMethod "[I" "java/lang/Object" "clone" "()Ljava/lang/Object;") ∈ lw_all := lw_g (lw_at lw_m5 216 rfl) rfl
theorem q1306 : (Jvm.Cond.selects "[I" ({ cls := "[I", name := "clone", desc := "()Ljava/lang/Object;" } : Jvm.MethodName) ({ cls := "java/lang/Object", name := "clone", desc := "()Ljava/lang/Object;" } : Jvm.MethodName)) ∈ lw_all := lw_g (lw_at lw_m5 217 rfl) rfl
theorem q1307 : (Jvm.Cond.castable "[I" "java/lang/Cloneable") ∈ lw_tbl := lw_at lw_m5 218 rfl
theorem q1458 : (Jvm.Cond.interfaceMethod "EarthMesh$Toll" "EarthMesh$Toll" "of" "(JJ)J") ∈ lw_tbl := lw_at lw_m6 129 rfl
theorem q1459 : (Jvm.Cond.declares ({ cls := "EarthMesh$Toll", name := "of", desc := "(JJ)J" } : Jvm.MethodName)) ∈ lw_tbl := lw_at lw_m6 130 rfl
