/-! FogNetsLaw -/
set_option maxRecDepth 100000
def RX0 : String := "FogNetsLaw"
abbrev cX0_yields : ByteArray := method_3_code
def yX0_yields : MethodName := ⟨RX0, "yields", "(LFogNets;I[J)I"⟩
def dkwX0_yields_0 : List UInt8 := [44, 3, 42, 27, 182, 0, 7, 133, 80, 167, 0, 6, 78, 4, 172, 3, 172]
abbrev dktX0_yields_0 : List UInt8 := dkwX0_yields_0 ++ []
theorem dksX0_yields_0 : cX0_yields.data.toList.drop 0 = dktX0_yields_0 := by decide +kernel
theorem dX0_yields_0 : decode cX0_yields 0 = .ok (.aload_n 2, 1) := dk_44 (dk_at dksX0_yields_0 0 rfl rfl)
theorem dX0_yields_1 : decode cX0_yields 1 = .ok (.iconst 0, 1) := dk_3 (dk_at dksX0_yields_0 1 rfl rfl)
theorem dX0_yields_2 : decode cX0_yields 2 = .ok (.aload_n 0, 1) := dk_42 (dk_at dksX0_yields_0 2 rfl rfl)
theorem dX0_yields_3 : decode cX0_yields 3 = .ok (.iload_n 1, 1) := dk_27 (dk_at dksX0_yields_0 3 rfl rfl)
theorem dX0_yields_4 : decode cX0_yields 4 = .ok (.invokevirtual 7, 3) := dk_182 0 7 (dk_at dksX0_yields_0 4 rfl rfl)
theorem dX0_yields_7 : decode cX0_yields 7 = .ok (.i2l, 1) := dk_133 (dk_at dksX0_yields_0 7 rfl rfl)
theorem dX0_yields_8 : decode cX0_yields 8 = .ok (.lastore, 1) := dk_80 (dk_at dksX0_yields_0 8 rfl rfl)
theorem dX0_yields_9 : decode cX0_yields 9 = .ok (.goto 6, 3) := dk_167 0 6 (dk_at dksX0_yields_0 9 rfl rfl)
theorem dX0_yields_12 : decode cX0_yields 12 = .ok (.astore_n 3, 1) := dk_78 (dk_at dksX0_yields_0 12 rfl rfl)
theorem dX0_yields_13 : decode cX0_yields 13 = .ok (.iconst 1, 1) := dk_4 (dk_at dksX0_yields_0 13 rfl rfl)
theorem dX0_yields_14 : decode cX0_yields 14 = .ok (.ireturn, 1) := dk_172 (dk_at dksX0_yields_0 14 rfl rfl)
theorem dX0_yields_15 : decode cX0_yields 15 = .ok (.iconst 0, 1) := dk_3 (dk_at dksX0_yields_0 15 rfl rfl)
theorem dX0_yields_16 : decode cX0_yields 16 = .ok (.ireturn, 1) := dk_172 (dk_at dksX0_yields_0 16 rfl rfl)
abbrev cX0_hole : ByteArray := method_4_code
def yX0_hole : MethodName := ⟨RX0, "hole", "(LFogNets;I[J)I"⟩
def dkwX0_hole_0 : List UInt8 := [44, 3, 42, 27, 182, 0, 15, 133, 80, 167, 0, 6, 78, 4, 172, 3, 172]
abbrev dktX0_hole_0 : List UInt8 := dkwX0_hole_0 ++ []
theorem dksX0_hole_0 : cX0_hole.data.toList.drop 0 = dktX0_hole_0 := by decide +kernel
theorem dX0_hole_0 : decode cX0_hole 0 = .ok (.aload_n 2, 1) := dk_44 (dk_at dksX0_hole_0 0 rfl rfl)
theorem dX0_hole_1 : decode cX0_hole 1 = .ok (.iconst 0, 1) := dk_3 (dk_at dksX0_hole_0 1 rfl rfl)
theorem dX0_hole_2 : decode cX0_hole 2 = .ok (.aload_n 0, 1) := dk_42 (dk_at dksX0_hole_0 2 rfl rfl)
theorem dX0_hole_3 : decode cX0_hole 3 = .ok (.iload_n 1, 1) := dk_27 (dk_at dksX0_hole_0 3 rfl rfl)
theorem dX0_hole_4 : decode cX0_hole 4 = .ok (.invokevirtual 15, 3) := dk_182 0 15 (dk_at dksX0_hole_0 4 rfl rfl)
theorem dX0_hole_7 : decode cX0_hole 7 = .ok (.i2l, 1) := dk_133 (dk_at dksX0_hole_0 7 rfl rfl)
theorem dX0_hole_8 : decode cX0_hole 8 = .ok (.lastore, 1) := dk_80 (dk_at dksX0_hole_0 8 rfl rfl)
theorem dX0_hole_9 : decode cX0_hole 9 = .ok (.goto 6, 3) := dk_167 0 6 (dk_at dksX0_hole_0 9 rfl rfl)
theorem dX0_hole_12 : decode cX0_hole 12 = .ok (.astore_n 3, 1) := dk_78 (dk_at dksX0_hole_0 12 rfl rfl)
theorem dX0_hole_13 : decode cX0_hole 13 = .ok (.iconst 1, 1) := dk_4 (dk_at dksX0_hole_0 13 rfl rfl)
theorem dX0_hole_14 : decode cX0_hole 14 = .ok (.ireturn, 1) := dk_172 (dk_at dksX0_hole_0 14 rfl rfl)
theorem dX0_hole_15 : decode cX0_hole 15 = .ok (.iconst 0, 1) := dk_3 (dk_at dksX0_hole_0 15 rfl rfl)
theorem dX0_hole_16 : decode cX0_hole 16 = .ok (.ireturn, 1) := dk_172 (dk_at dksX0_hole_0 16 rfl rfl)
theorem q92 : (Jvm.Cond.initialized "FogNetsLaw") ∈ lw_all := lw_g (lw_at lw_m1 0 rfl) rfl
theorem q142 : (Jvm.Cond.classLink "FogNetsLaw" (8 : Nat) "FogNets") ∈ lw_all := lw_g (lw_at lw_m1 50 rfl) rfl
theorem q144 : (Jvm.Cond.methodLink "FogNetsLaw" (18 : Nat) ({ cls := "FogNets", name := "<init>", desc := "()V" } : Jvm.MethodName)) ∈ lw_all := lw_g (lw_at lw_m1 52 rfl) rfl
theorem q494 : (Jvm.Cond.methodLink "FogNetsLaw" (24 : Nat) ({ cls := "FogNets", name := "feed", desc := "(JJJ)I" } : Jvm.MethodName)) ∈ lw_all := lw_g (lw_at lw_m2 162 rfl) rfl
theorem q506 : (Jvm.Cond.methodLink "FogNetsLaw" (29 : Nat) ({ cls := "FogNets", name := "ridge", desc := "()I" } : Jvm.MethodName)) ∈ lw_all := lw_g (lw_at lw_m2 174 rfl) rfl
theorem q1078 : (Jvm.Cond.methodLink "FogNetsLaw" (34 : Nat) ({ cls := "FogNets", name := "net", desc := "(II)I" } : Jvm.MethodName)) ∈ lw_all := lw_g (lw_at lw_m5 26 rfl) rfl
theorem q1111 : (Jvm.Cond.methodLink "FogNetsLaw" (39 : Nat) ({ cls := "FogNets", name := "village", desc := "(II)I" } : Jvm.MethodName)) ∈ lw_all := lw_g (lw_at lw_m5 59 rfl) rfl
theorem q1120 : (Jvm.Cond.methodLink "FogNetsLaw" (43 : Nat) ({ cls := "FogNets", name := "wind", desc := "(I)I" } : Jvm.MethodName)) ∈ lw_all := lw_g (lw_at lw_m5 68 rfl) rfl
theorem q1191 : (Jvm.Cond.methodLink "FogNetsLaw" (47 : Nat) ({ cls := "FogNets", name := "bank", desc := "(III)I" } : Jvm.MethodName)) ∈ lw_all := lw_g (lw_at lw_m5 139 rfl) rfl
theorem q1246 : (Jvm.Cond.methodLink "FogNetsLaw" (52 : Nat) ({ cls := "FogNets", name := "nights", desc := "(I)I" } : Jvm.MethodName)) ∈ lw_all := lw_g (lw_at lw_m5 194 rfl) rfl
theorem q1290 : (Jvm.Cond.methodLink "FogNetsLaw" (56 : Nat) ({ cls := "FogNets", name := "mend", desc := "(IZ)Z" } : Jvm.MethodName)) ∈ lw_all := lw_g (lw_at lw_m5 238 rfl) rfl
theorem q1306 : (Jvm.Cond.methodLink "FogNetsLaw" (61 : Nat) ({ cls := "FogNets", name := "move", desc := "(II)Z" } : Jvm.MethodName)) ∈ lw_all := lw_g (lw_at lw_m6 14 rfl) rfl
theorem q1323 : (Jvm.Cond.methodLink "FogNetsLaw" (75 : Nat) ({ cls := "FogNets", name := "place", desc := "(IIIII)I" } : Jvm.MethodName)) ∈ lw_all := lw_g (lw_at lw_m6 31 rfl) rfl
theorem q1338 : (Jvm.Cond.methodLink "FogNetsLaw" (80 : Nat) ({ cls := "FogNets", name := "restless", desc := "()I" } : Jvm.MethodName)) ∈ lw_all := lw_g (lw_at lw_m6 46 rfl) rfl
theorem q1346 : (Jvm.Cond.methodLink "FogNetsLaw" (84 : Nat) ({ cls := "FogNets", name := "played", desc := "(I)I" } : Jvm.MethodName)) ∈ lw_all := lw_g (lw_at lw_m6 54 rfl) rfl
theorem q1368 : (Jvm.Cond.methodLink "FogNetsLaw" (91 : Nat) ({ cls := "FogNets", name := "first", desc := "()I" } : Jvm.MethodName)) ∈ lw_all := lw_g (lw_at lw_m6 76 rfl) rfl
theorem q1372 : (Jvm.Cond.methodLink "FogNetsLaw" (95 : Nat) ({ cls := "FogNets", name := "share", desc := "(II)I" } : Jvm.MethodName)) ∈ lw_all := lw_g (lw_at lw_m6 80 rfl) rfl
theorem q1390 : (Jvm.Cond.methodLink "FogNetsLaw" (99 : Nat) ({ cls := "FogNets", name := "dry", desc := "(I)I" } : Jvm.MethodName)) ∈ lw_all := lw_g (lw_at lw_m6 98 rfl) rfl
theorem q1402 : (Jvm.Cond.methodLink "FogNetsLaw" (103 : Nat) ({ cls := "FogNets", name := "stored", desc := "(II)I" } : Jvm.MethodName)) ∈ lw_all := lw_g (lw_at lw_m6 110 rfl) rfl
theorem q1406 : (Jvm.Cond.methodLink "FogNetsLaw" (107 : Nat) ({ cls := "FogNets", name := "jar", desc := "(II)I" } : Jvm.MethodName)) ∈ lw_all := lw_g (lw_at lw_m6 114 rfl) rfl
theorem q1411 : (Jvm.Cond.methodLink "FogNetsLaw" (111 : Nat) ({ cls := "FogNets", name := "clear", desc := "()Z" } : Jvm.MethodName)) ∈ lw_all := lw_g (lw_at lw_m6 119 rfl) rfl
theorem q1415 : (Jvm.Cond.methodLink "FogNetsLaw" (116 : Nat) ({ cls := "FogNets", name := "winds", desc := "()I" } : Jvm.MethodName)) ∈ lw_all := lw_g (lw_at lw_m6 123 rfl) rfl
theorem q1431 : (Jvm.Cond.methodLink "FogNetsLaw" (120 : Nat) ({ cls := "FogNets", name := "windsAt", desc := "(I)I" } : Jvm.MethodName)) ∈ lw_all := lw_g (lw_at lw_m6 139 rfl) rfl
theorem q1435 : (Jvm.Cond.methodLink "FogNetsLaw" (124 : Nat) ({ cls := "FogNets", name := "lots", desc := "(IIII)I" } : Jvm.MethodName)) ∈ lw_all := lw_g (lw_at lw_m6 143 rfl) rfl
theorem q1452 : (Jvm.Cond.methodLink "FogNetsLaw" (129 : Nat) ({ cls := "FogNets", name := "mark", desc := "(IZ)Z" } : Jvm.MethodName)) ∈ lw_all := lw_g (lw_at lw_m6 160 rfl) rfl
theorem q1499 : (Jvm.Cond.methodLink "FogNetsLaw" (133 : Nat) ({ cls := "FogNets", name := "count", desc := "(I)I" } : Jvm.MethodName)) ∈ lw_all := lw_g (lw_at lw_m6 207 rfl) rfl
theorem q1503 : (Jvm.Cond.methodLink "FogNetsLaw" (66 : Nat) ({ cls := "FogNetsLaw", name := "yields", desc := "(LFogNets;I[J)I" } : Jvm.MethodName)) ∈ lw_all := lw_g (lw_at lw_m6 211 rfl) rfl
theorem q1504 : (Jvm.Cond.static ({ cls := "FogNetsLaw", name := "yields", desc := "(LFogNets;I[J)I" } : Jvm.MethodName)) ∈ lw_all := lw_g (lw_at lw_m6 212 rfl) rfl
theorem q1505 : (Jvm.Cond.codeWith ({ cls := "FogNetsLaw", name := "yields", desc := "(LFogNets;I[J)I" } : Jvm.MethodName) method_3_code (4 : Nat) (Option.some Jvm.ClassFile.FieldType.int) [((0 : Nat), (9 : Nat), (12 : Nat), (13 : Nat))]) ∈ lw_all := lw_g (lw_at lw_m6 213 rfl) rfl
theorem q1506 : (Jvm.Cond.classLink "FogNetsLaw" (13 : Nat) "java/util/NoSuchElementException") ∈ lw_all := lw_g (lw_at lw_m6 214 rfl) rfl
theorem q1507 : (Jvm.Cond.methodLink "FogNetsLaw" (7 : Nat) ({ cls := "FogNets", name := "yields", desc := "(I)I" } : Jvm.MethodName)) ∈ lw_all := lw_g (lw_at lw_m6 215 rfl) rfl
theorem q1531 : (Jvm.Cond.methodLink "FogNetsLaw" (88 : Nat) ({ cls := "FogNetsLaw", name := "hole", desc := "(LFogNets;I[J)I" } : Jvm.MethodName)) ∈ lw_all := lw_g (lw_at lw_m6 239 rfl) rfl
theorem q1532 : (Jvm.Cond.static ({ cls := "FogNetsLaw", name := "hole", desc := "(LFogNets;I[J)I" } : Jvm.MethodName)) ∈ lw_all := lw_g (lw_at lw_m7 0 rfl) rfl
theorem q1533 : (Jvm.Cond.codeWith ({ cls := "FogNetsLaw", name := "hole", desc := "(LFogNets;I[J)I" } : Jvm.MethodName) method_4_code (4 : Nat) (Option.some Jvm.ClassFile.FieldType.int) [((0 : Nat), (9 : Nat), (12 : Nat), (13 : Nat))]) ∈ lw_all := lw_g (lw_at lw_m7 1 rfl) rfl
theorem q1534 : (Jvm.Cond.methodLink "FogNetsLaw" (15 : Nat) ({ cls := "FogNets", name := "hole", desc := "(I)I" } : Jvm.MethodName)) ∈ lw_all := lw_g (lw_at lw_m7 2 rfl) rfl
theorem q1538 : (Jvm.Cond.classLink "FogNetsLaw" (19 : Nat) "FogNetsModel") ∈ lw_all := lw_g (lw_at lw_m7 6 rfl) rfl
theorem q1540 : (Jvm.Cond.methodLink "FogNetsLaw" (21 : Nat) ({ cls := "FogNetsModel", name := "<init>", desc := "()V" } : Jvm.MethodName)) ∈ lw_all := lw_g (lw_at lw_m7 8 rfl) rfl
theorem q1690 : (Jvm.Cond.methodLink "FogNetsLaw" (72 : Nat) ({ cls := "FogNetsModel", name := "thrown", desc := "()I" } : Jvm.MethodName)) ∈ lw_all := lw_g (lw_at lw_m7 158 rfl) rfl
theorem q1694 : (Jvm.Cond.methodLink "FogNetsLaw" (28 : Nat) ({ cls := "FogNetsModel", name := "feed", desc := "(JJJ)I" } : Jvm.MethodName)) ∈ lw_all := lw_g (lw_at lw_m7 162 rfl) rfl
theorem q1699 : (Jvm.Cond.methodLink "FogNetsLaw" (33 : Nat) ({ cls := "FogNetsModel", name := "ridge", desc := "()I" } : Jvm.MethodName)) ∈ lw_all := lw_g (lw_at lw_m7 167 rfl) rfl
theorem q1824 : (Jvm.Cond.methodLink "FogNetsLaw" (38 : Nat) ({ cls := "FogNetsModel", name := "net", desc := "(II)I" } : Jvm.MethodName)) ∈ lw_all := lw_g (lw_at lw_m8 52 rfl) rfl
theorem q1832 : (Jvm.Cond.methodLink "FogNetsLaw" (42 : Nat) ({ cls := "FogNetsModel", name := "village", desc := "(II)I" } : Jvm.MethodName)) ∈ lw_all := lw_g (lw_at lw_m8 60 rfl) rfl
theorem q1844 : (Jvm.Cond.methodLink "FogNetsLaw" (46 : Nat) ({ cls := "FogNetsModel", name := "wind", desc := "(I)I" } : Jvm.MethodName)) ∈ lw_all := lw_g (lw_at lw_m8 72 rfl) rfl
theorem q1872 : (Jvm.Cond.methodLink "FogNetsLaw" (51 : Nat) ({ cls := "FogNetsModel", name := "bank", desc := "(III)I" } : Jvm.MethodName)) ∈ lw_all := lw_g (lw_at lw_m8 100 rfl) rfl
theorem q1901 : (Jvm.Cond.methodLink "FogNetsLaw" (55 : Nat) ({ cls := "FogNetsModel", name := "nights", desc := "(I)I" } : Jvm.MethodName)) ∈ lw_all := lw_g (lw_at lw_m8 129 rfl) rfl
theorem q1929 : (Jvm.Cond.methodLink "FogNetsLaw" (60 : Nat) ({ cls := "FogNetsModel", name := "mend", desc := "(IZ)Z" } : Jvm.MethodName)) ∈ lw_all := lw_g (lw_at lw_m8 157 rfl) rfl
theorem q1933 : (Jvm.Cond.methodLink "FogNetsLaw" (65 : Nat) ({ cls := "FogNetsModel", name := "move", desc := "(II)Z" } : Jvm.MethodName)) ∈ lw_all := lw_g (lw_at lw_m8 161 rfl) rfl
theorem q1941 : (Jvm.Cond.methodLink "FogNetsLaw" (71 : Nat) ({ cls := "FogNetsModel", name := "yields", desc := "(I)I" } : Jvm.MethodName)) ∈ lw_all := lw_g (lw_at lw_m8 169 rfl) rfl
theorem q1945 : (Jvm.Cond.methodLink "FogNetsLaw" (79 : Nat) ({ cls := "FogNetsModel", name := "place", desc := "(IIIII)I" } : Jvm.MethodName)) ∈ lw_all := lw_g (lw_at lw_m8 173 rfl) rfl
theorem q1953 : (Jvm.Cond.methodLink "FogNetsLaw" (83 : Nat) ({ cls := "FogNetsModel", name := "restless", desc := "()I" } : Jvm.MethodName)) ∈ lw_all := lw_g (lw_at lw_m8 181 rfl) rfl
theorem q1961 : (Jvm.Cond.methodLink "FogNetsLaw" (87 : Nat) ({ cls := "FogNetsModel", name := "played", desc := "(I)I" } : Jvm.MethodName)) ∈ lw_all := lw_g (lw_at lw_m8 189 rfl) rfl
theorem q1976 : (Jvm.Cond.methodLink "FogNetsLaw" (90 : Nat) ({ cls := "FogNetsModel", name := "hole", desc := "(I)I" } : Jvm.MethodName)) ∈ lw_all := lw_g (lw_at lw_m8 204 rfl) rfl
theorem q1980 : (Jvm.Cond.methodLink "FogNetsLaw" (94 : Nat) ({ cls := "FogNetsModel", name := "first", desc := "()I" } : Jvm.MethodName)) ∈ lw_all := lw_g (lw_at lw_m8 208 rfl) rfl
theorem q1984 : (Jvm.Cond.methodLink "FogNetsLaw" (98 : Nat) ({ cls := "FogNetsModel", name := "share", desc := "(II)I" } : Jvm.MethodName)) ∈ lw_all := lw_g (lw_at lw_m8 212 rfl) rfl
theorem q1997 : (Jvm.Cond.methodLink "FogNetsLaw" (102 : Nat) ({ cls := "FogNetsModel", name := "dry", desc := "(I)I" } : Jvm.MethodName)) ∈ lw_all := lw_g (lw_at lw_m8 225 rfl) rfl
theorem q2001 : (Jvm.Cond.methodLink "FogNetsLaw" (106 : Nat) ({ cls := "FogNetsModel", name := "stored", desc := "(II)I" } : Jvm.MethodName)) ∈ lw_all := lw_g (lw_at lw_m8 229 rfl) rfl
theorem q2005 : (Jvm.Cond.methodLink "FogNetsLaw" (110 : Nat) ({ cls := "FogNetsModel", name := "jar", desc := "(II)I" } : Jvm.MethodName)) ∈ lw_all := lw_g (lw_at lw_m8 233 rfl) rfl
theorem q2010 : (Jvm.Cond.methodLink "FogNetsLaw" (115 : Nat) ({ cls := "FogNetsModel", name := "clear", desc := "()Z" } : Jvm.MethodName)) ∈ lw_all := lw_g (lw_at lw_m8 238 rfl) rfl
theorem q2014 : (Jvm.Cond.methodLink "FogNetsLaw" (119 : Nat) ({ cls := "FogNetsModel", name := "winds", desc := "()I" } : Jvm.MethodName)) ∈ lw_all := lw_g (lw_at lw_m9 2 rfl) rfl
theorem q2022 : (Jvm.Cond.methodLink "FogNetsLaw" (123 : Nat) ({ cls := "FogNetsModel", name := "windsAt", desc := "(I)I" } : Jvm.MethodName)) ∈ lw_all := lw_g (lw_at lw_m9 10 rfl) rfl
theorem q2026 : (Jvm.Cond.methodLink "FogNetsLaw" (128 : Nat) ({ cls := "FogNetsModel", name := "lots", desc := "(IIII)I" } : Jvm.MethodName)) ∈ lw_all := lw_g (lw_at lw_m9 14 rfl) rfl
theorem q2038 : (Jvm.Cond.methodLink "FogNetsLaw" (132 : Nat) ({ cls := "FogNetsModel", name := "mark", desc := "(IZ)Z" } : Jvm.MethodName)) ∈ lw_all := lw_g (lw_at lw_m9 26 rfl) rfl
theorem q2042 : (Jvm.Cond.methodLink "FogNetsLaw" (136 : Nat) ({ cls := "FogNetsModel", name := "count", desc := "(I)I" } : Jvm.MethodName)) ∈ lw_all := lw_g (lw_at lw_m9 30 rfl) rfl
theorem q2046 : (Jvm.Cond.constantLong "FogNetsLaw" (22 : Nat) (4294967295 : Int64)) ∈ lw_all := lw_g (lw_at lw_m9 34 rfl) rfl

/-! FogNets$Ridge -/
set_option maxRecDepth 100000
def RX3 : String := "FogNets$Ridge"
def TX3 : u_T := fun k => match k with
  | 0 => ("FogNets$Ridge", "columns", "I", false)
  | 1 => ("FogNets$Ridge", "rows", "I", false)
  | 2 => ("FogNets$Ridge", "hours", "I", false)
  | 3 => ("FogNets$Ridge", "dew", "I", false)
  | 4 => ("FogNets$Ridge", "turns", "I", false)
  | 5 => ("FogNets$Ridge", "wind", "LFogNets$Expression;", false)
  | 6 => ("FogNets$Ridge", "fog", "LFogNets$Expression;", false)
  | 7 => ("FogNets$Ridge", "names", "Ljava/util/ArrayList;", true)
  | 8 => ("FogNets$Ridge", "thirst", "[I", true)
  | 9 => ("FogNets$Ridge", "tank", "[I", true)
  | 10 => ("FogNets$Ridge", "nets", "Ljava/util/ArrayList;", true)
  | 11 => ("FogNets$Ridge", "at", "[I", true)
  | _ => ("FogNets$Ridge", "facts", "LFogNets$Facts;", true)
def tyX3 : Nat → FieldType := fun k => match k with
  | 0 => .int
  | 1 => .int
  | 2 => .int
  | 3 => .int
  | 4 => .int
  | 5 => .object "FogNets$Expression"
  | 6 => .object "FogNets$Expression"
  | 7 => .object "java/util/ArrayList"
  | 8 => .array .int
  | 9 => .array .int
  | 10 => .object "java/util/ArrayList"
  | 11 => .array .int
  | _ => .object "FogNets$Facts"
abbrev wsX30 : List Cond := u_ws RX3 TX3 13
set_option maxRecDepth 100000 in
theorem nmX3 : ∀ a, a < 13 → ∀ b, b < 13 → a ≠ b → (TX3 a).2.1 ≠ (TX3 b).2.1 := by decide +kernel
set_option maxRecDepth 100000 in
theorem tyX3_ok : ∀ k, k < 13 → parseFieldDescriptor (TX3 k).2.2.1 = some (tyX3 k) := by decide +kernel
abbrev cX3_init : ByteArray := prog_20_method_1_code
def yX3_init : MethodName := ⟨RX3, "<init>", "()V"⟩
def dkwX3_init_3 : List UInt8 := [187, 0, 43, 89, 183, 0, 45, 181, 0, 46, 177]
abbrev dktX3_init_3 : List UInt8 := dkwX3_init_3 ++ []
def dkwX3_init_2 : List UInt8 := [181, 0, 34, 42, 187, 0, 21, 89, 5, 183, 0, 23, 181, 0, 37, 42, 16, 12, 188, 10, 181, 0, 40, 42]
abbrev dktX3_init_2 : List UInt8 := dkwX3_init_2 ++ dktX3_init_3
def dkwX3_init_1 : List UInt8 := [187, 0, 21, 89, 5, 183, 0, 23, 181, 0, 26, 42, 16, 6, 188, 10, 181, 0, 30, 42, 16, 6, 188, 10]
abbrev dktX3_init_1 : List UInt8 := dkwX3_init_1 ++ dktX3_init_2
def dkwX3_init_0 : List UInt8 := [42, 183, 0, 3, 42, 16, 6, 181, 0, 9, 42, 7, 181, 0, 15, 42, 16, 6, 181, 0, 18, 42]
abbrev dktX3_init_0 : List UInt8 := dkwX3_init_0 ++ dktX3_init_1
theorem dksX3_init_0 : cX3_init.data.toList.drop 0 = dktX3_init_0 := by decide +kernel
theorem dksX3_init_1 : cX3_init.data.toList.drop 22 = dktX3_init_1 := dk_seg dksX3_init_0 22 rfl rfl
theorem dksX3_init_2 : cX3_init.data.toList.drop 46 = dktX3_init_2 := dk_seg dksX3_init_1 24 rfl rfl
theorem dksX3_init_3 : cX3_init.data.toList.drop 70 = dktX3_init_3 := dk_seg dksX3_init_2 24 rfl rfl
theorem dX3_init_0 : decode cX3_init 0 = .ok (.aload_n 0, 1) := dk_42 (dk_at dksX3_init_0 0 rfl rfl)
theorem dX3_init_1 : decode cX3_init 1 = .ok (.invokespecial 3, 3) := dk_183 0 3 (dk_at dksX3_init_0 1 rfl rfl)
theorem dX3_init_4 : decode cX3_init 4 = .ok (.aload_n 0, 1) := dk_42 (dk_at dksX3_init_0 4 rfl rfl)
theorem dX3_init_5 : decode cX3_init 5 = .ok (.bipush 6, 2) := dk_16 6 (dk_at dksX3_init_0 5 rfl rfl)
theorem dX3_init_7 : decode cX3_init 7 = .ok (.putfield 9, 3) := dk_181 0 9 (dk_at dksX3_init_0 7 rfl rfl)
theorem dX3_init_10 : decode cX3_init 10 = .ok (.aload_n 0, 1) := dk_42 (dk_at dksX3_init_0 10 rfl rfl)
theorem dX3_init_11 : decode cX3_init 11 = .ok (.iconst 4, 1) := dk_7 (dk_at dksX3_init_0 11 rfl rfl)
theorem dX3_init_12 : decode cX3_init 12 = .ok (.putfield 15, 3) := dk_181 0 15 (dk_at dksX3_init_0 12 rfl rfl)
theorem dX3_init_15 : decode cX3_init 15 = .ok (.aload_n 0, 1) := dk_42 (dk_at dksX3_init_0 15 rfl rfl)
theorem dX3_init_16 : decode cX3_init 16 = .ok (.bipush 6, 2) := dk_16 6 (dk_at dksX3_init_0 16 rfl rfl)
theorem dX3_init_18 : decode cX3_init 18 = .ok (.putfield 18, 3) := dk_181 0 18 (dk_at dksX3_init_0 18 rfl rfl)
theorem dX3_init_21 : decode cX3_init 21 = .ok (.aload_n 0, 1) := dk_42 (dk_at dksX3_init_0 21 rfl rfl)
theorem dX3_init_22 : decode cX3_init 22 = .ok (.new 21, 3) := dk_187 0 21 (dk_at dksX3_init_1 0 rfl rfl)
theorem dX3_init_25 : decode cX3_init 25 = .ok (.dup, 1) := dk_89 (dk_at dksX3_init_1 3 rfl rfl)
theorem dX3_init_26 : decode cX3_init 26 = .ok (.iconst 2, 1) := dk_5 (dk_at dksX3_init_1 4 rfl rfl)
theorem dX3_init_27 : decode cX3_init 27 = .ok (.invokespecial 23, 3) := dk_183 0 23 (dk_at dksX3_init_1 5 rfl rfl)
theorem dX3_init_30 : decode cX3_init 30 = .ok (.putfield 26, 3) := dk_181 0 26 (dk_at dksX3_init_1 8 rfl rfl)
theorem dX3_init_33 : decode cX3_init 33 = .ok (.aload_n 0, 1) := dk_42 (dk_at dksX3_init_1 11 rfl rfl)
theorem dX3_init_34 : decode cX3_init 34 = .ok (.bipush 6, 2) := dk_16 6 (dk_at dksX3_init_1 12 rfl rfl)
theorem dX3_init_36 : decode cX3_init 36 = .ok (.newarray .int, 2) := dk_188_10 (dk_at dksX3_init_1 14 rfl rfl)
theorem dX3_init_38 : decode cX3_init 38 = .ok (.putfield 30, 3) := dk_181 0 30 (dk_at dksX3_init_1 16 rfl rfl)
theorem dX3_init_41 : decode cX3_init 41 = .ok (.aload_n 0, 1) := dk_42 (dk_at dksX3_init_1 19 rfl rfl)
theorem dX3_init_42 : decode cX3_init 42 = .ok (.bipush 6, 2) := dk_16 6 (dk_at dksX3_init_1 20 rfl rfl)
theorem dX3_init_44 : decode cX3_init 44 = .ok (.newarray .int, 2) := dk_188_10 (dk_at dksX3_init_1 22 rfl rfl)
theorem dX3_init_46 : decode cX3_init 46 = .ok (.putfield 34, 3) := dk_181 0 34 (dk_at dksX3_init_2 0 rfl rfl)
theorem dX3_init_49 : decode cX3_init 49 = .ok (.aload_n 0, 1) := dk_42 (dk_at dksX3_init_2 3 rfl rfl)
theorem dX3_init_50 : decode cX3_init 50 = .ok (.new 21, 3) := dk_187 0 21 (dk_at dksX3_init_2 4 rfl rfl)
theorem dX3_init_53 : decode cX3_init 53 = .ok (.dup, 1) := dk_89 (dk_at dksX3_init_2 7 rfl rfl)
theorem dX3_init_54 : decode cX3_init 54 = .ok (.iconst 2, 1) := dk_5 (dk_at dksX3_init_2 8 rfl rfl)
theorem dX3_init_55 : decode cX3_init 55 = .ok (.invokespecial 23, 3) := dk_183 0 23 (dk_at dksX3_init_2 9 rfl rfl)
theorem dX3_init_58 : decode cX3_init 58 = .ok (.putfield 37, 3) := dk_181 0 37 (dk_at dksX3_init_2 12 rfl rfl)
theorem dX3_init_61 : decode cX3_init 61 = .ok (.aload_n 0, 1) := dk_42 (dk_at dksX3_init_2 15 rfl rfl)
theorem dX3_init_62 : decode cX3_init 62 = .ok (.bipush 12, 2) := dk_16 12 (dk_at dksX3_init_2 16 rfl rfl)
theorem dX3_init_64 : decode cX3_init 64 = .ok (.newarray .int, 2) := dk_188_10 (dk_at dksX3_init_2 18 rfl rfl)
theorem dX3_init_66 : decode cX3_init 66 = .ok (.putfield 40, 3) := dk_181 0 40 (dk_at dksX3_init_2 20 rfl rfl)
theorem dX3_init_69 : decode cX3_init 69 = .ok (.aload_n 0, 1) := dk_42 (dk_at dksX3_init_2 23 rfl rfl)
theorem dX3_init_70 : decode cX3_init 70 = .ok (.new 43, 3) := dk_187 0 43 (dk_at dksX3_init_3 0 rfl rfl)
theorem dX3_init_73 : decode cX3_init 73 = .ok (.dup, 1) := dk_89 (dk_at dksX3_init_3 3 rfl rfl)
theorem dX3_init_74 : decode cX3_init 74 = .ok (.invokespecial 45, 3) := dk_183 0 45 (dk_at dksX3_init_3 4 rfl rfl)
theorem dX3_init_77 : decode cX3_init 77 = .ok (.putfield 46, 3) := dk_181 0 46 (dk_at dksX3_init_3 7 rfl rfl)
theorem dX3_init_80 : decode cX3_init 80 = .ok (.return_, 1) := dk_177 (dk_at dksX3_init_3 10 rfl rfl)
abbrev cX3_find : ByteArray := prog_20_method_2_code
def yX3_find : MethodName := ⟨RX3, "find", "(J)I"⟩
def dkwX3_find_1 : List UInt8 := [182, 0, 60, 31, 148, 154, 0, 5, 29, 172, 132, 3, 1, 167, 255, 221, 2, 172]
abbrev dktX3_find_1 : List UInt8 := dkwX3_find_1 ++ []
def dkwX3_find_0 : List UInt8 := [3, 62, 29, 42, 180, 0, 26, 182, 0, 50, 162, 0, 30, 42, 180, 0, 26, 29, 182, 0, 54, 192, 0, 58]
abbrev dktX3_find_0 : List UInt8 := dkwX3_find_0 ++ dktX3_find_1
theorem dksX3_find_0 : cX3_find.data.toList.drop 0 = dktX3_find_0 := by decide +kernel
theorem dksX3_find_1 : cX3_find.data.toList.drop 24 = dktX3_find_1 := dk_seg dksX3_find_0 24 rfl rfl
theorem dX3_find_0 : decode cX3_find 0 = .ok (.iconst 0, 1) := dk_3 (dk_at dksX3_find_0 0 rfl rfl)
theorem dX3_find_1 : decode cX3_find 1 = .ok (.istore_n 3, 1) := dk_62 (dk_at dksX3_find_0 1 rfl rfl)
theorem dX3_find_2 : decode cX3_find 2 = .ok (.iload_n 3, 1) := dk_29 (dk_at dksX3_find_0 2 rfl rfl)
theorem dX3_find_3 : decode cX3_find 3 = .ok (.aload_n 0, 1) := dk_42 (dk_at dksX3_find_0 3 rfl rfl)
theorem dX3_find_4 : decode cX3_find 4 = .ok (.getfield 26, 3) := dk_180 0 26 (dk_at dksX3_find_0 4 rfl rfl)
theorem dX3_find_7 : decode cX3_find 7 = .ok (.invokevirtual 50, 3) := dk_182 0 50 (dk_at dksX3_find_0 7 rfl rfl)
theorem dX3_find_10 : decode cX3_find 10 = .ok (.if_icmp .ge 30, 3) := dk_162 0 30 (dk_at dksX3_find_0 10 rfl rfl)
theorem dX3_find_13 : decode cX3_find 13 = .ok (.aload_n 0, 1) := dk_42 (dk_at dksX3_find_0 13 rfl rfl)
theorem dX3_find_14 : decode cX3_find 14 = .ok (.getfield 26, 3) := dk_180 0 26 (dk_at dksX3_find_0 14 rfl rfl)
theorem dX3_find_17 : decode cX3_find 17 = .ok (.iload_n 3, 1) := dk_29 (dk_at dksX3_find_0 17 rfl rfl)
theorem dX3_find_18 : decode cX3_find 18 = .ok (.invokevirtual 54, 3) := dk_182 0 54 (dk_at dksX3_find_0 18 rfl rfl)
theorem dX3_find_21 : decode cX3_find 21 = .ok (.checkcast 58, 3) := dk_192 0 58 (dk_at dksX3_find_0 21 rfl rfl)
theorem dX3_find_24 : decode cX3_find 24 = .ok (.invokevirtual 60, 3) := dk_182 0 60 (dk_at dksX3_find_1 0 rfl rfl)
theorem dX3_find_27 : decode cX3_find 27 = .ok (.lload_n 1, 1) := dk_31 (dk_at dksX3_find_1 3 rfl rfl)
theorem dX3_find_28 : decode cX3_find 28 = .ok (.lcmp, 1) := dk_148 (dk_at dksX3_find_1 4 rfl rfl)
theorem dX3_find_29 : decode cX3_find 29 = .ok (.ifCond .ne 5, 3) := dk_154 0 5 (dk_at dksX3_find_1 5 rfl rfl)
theorem dX3_find_32 : decode cX3_find 32 = .ok (.iload_n 3, 1) := dk_29 (dk_at dksX3_find_1 8 rfl rfl)
theorem dX3_find_33 : decode cX3_find 33 = .ok (.ireturn, 1) := dk_172 (dk_at dksX3_find_1 9 rfl rfl)
theorem dX3_find_34 : decode cX3_find 34 = .ok (.iinc 3 1, 3) := dk_132 3 1 (dk_at dksX3_find_1 10 rfl rfl)
theorem dX3_find_37 : decode cX3_find 37 = .ok (.goto (-35), 3) := dk_167 255 221 (dk_at dksX3_find_1 13 rfl rfl)
theorem dX3_find_40 : decode cX3_find 40 = .ok (.iconst (-1), 1) := dk_2 (dk_at dksX3_find_1 16 rfl rfl)
theorem dX3_find_41 : decode cX3_find 41 = .ok (.ireturn, 1) := dk_172 (dk_at dksX3_find_1 17 rfl rfl)
abbrev cX3_wind : ByteArray := prog_20_method_5_code
def yX3_wind : MethodName := ⟨RX3, "wind", "(II)I"⟩
def dkwX3_wind_1 : List UInt8 := [180, 0, 72, 4, 27, 79, 42, 180, 0, 68, 42, 180, 0, 46, 182, 0, 75, 7, 184, 0, 80, 172]
abbrev dktX3_wind_1 : List UInt8 := dkwX3_wind_1 ++ []
def dkwX3_wind_0 : List UInt8 := [42, 180, 0, 68, 199, 0, 5, 3, 172, 42, 180, 0, 46, 180, 0, 72, 3, 28, 79, 42, 180, 0, 46]
abbrev dktX3_wind_0 : List UInt8 := dkwX3_wind_0 ++ dktX3_wind_1
theorem dksX3_wind_0 : cX3_wind.data.toList.drop 0 = dktX3_wind_0 := by decide +kernel
theorem dksX3_wind_1 : cX3_wind.data.toList.drop 23 = dktX3_wind_1 := dk_seg dksX3_wind_0 23 rfl rfl
theorem dX3_wind_0 : decode cX3_wind 0 = .ok (.aload_n 0, 1) := dk_42 (dk_at dksX3_wind_0 0 rfl rfl)
theorem dX3_wind_1 : decode cX3_wind 1 = .ok (.getfield 68, 3) := dk_180 0 68 (dk_at dksX3_wind_0 1 rfl rfl)
theorem dX3_wind_4 : decode cX3_wind 4 = .ok (.ifnonnull 5, 3) := dk_199 0 5 (dk_at dksX3_wind_0 4 rfl rfl)
theorem dX3_wind_7 : decode cX3_wind 7 = .ok (.iconst 0, 1) := dk_3 (dk_at dksX3_wind_0 7 rfl rfl)
theorem dX3_wind_8 : decode cX3_wind 8 = .ok (.ireturn, 1) := dk_172 (dk_at dksX3_wind_0 8 rfl rfl)
theorem dX3_wind_9 : decode cX3_wind 9 = .ok (.aload_n 0, 1) := dk_42 (dk_at dksX3_wind_0 9 rfl rfl)
theorem dX3_wind_10 : decode cX3_wind 10 = .ok (.getfield 46, 3) := dk_180 0 46 (dk_at dksX3_wind_0 10 rfl rfl)
theorem dX3_wind_13 : decode cX3_wind 13 = .ok (.getfield 72, 3) := dk_180 0 72 (dk_at dksX3_wind_0 13 rfl rfl)
theorem dX3_wind_16 : decode cX3_wind 16 = .ok (.iconst 0, 1) := dk_3 (dk_at dksX3_wind_0 16 rfl rfl)
theorem dX3_wind_17 : decode cX3_wind 17 = .ok (.iload_n 2, 1) := dk_28 (dk_at dksX3_wind_0 17 rfl rfl)
theorem dX3_wind_18 : decode cX3_wind 18 = .ok (.iastore, 1) := dk_79 (dk_at dksX3_wind_0 18 rfl rfl)
theorem dX3_wind_19 : decode cX3_wind 19 = .ok (.aload_n 0, 1) := dk_42 (dk_at dksX3_wind_0 19 rfl rfl)
theorem dX3_wind_20 : decode cX3_wind 20 = .ok (.getfield 46, 3) := dk_180 0 46 (dk_at dksX3_wind_0 20 rfl rfl)
theorem dX3_wind_23 : decode cX3_wind 23 = .ok (.getfield 72, 3) := dk_180 0 72 (dk_at dksX3_wind_1 0 rfl rfl)
theorem dX3_wind_26 : decode cX3_wind 26 = .ok (.iconst 1, 1) := dk_4 (dk_at dksX3_wind_1 3 rfl rfl)
theorem dX3_wind_27 : decode cX3_wind 27 = .ok (.iload_n 1, 1) := dk_27 (dk_at dksX3_wind_1 4 rfl rfl)
theorem dX3_wind_28 : decode cX3_wind 28 = .ok (.iastore, 1) := dk_79 (dk_at dksX3_wind_1 5 rfl rfl)
theorem dX3_wind_29 : decode cX3_wind 29 = .ok (.aload_n 0, 1) := dk_42 (dk_at dksX3_wind_1 6 rfl rfl)
theorem dX3_wind_30 : decode cX3_wind 30 = .ok (.getfield 68, 3) := dk_180 0 68 (dk_at dksX3_wind_1 7 rfl rfl)
theorem dX3_wind_33 : decode cX3_wind 33 = .ok (.aload_n 0, 1) := dk_42 (dk_at dksX3_wind_1 10 rfl rfl)
theorem dX3_wind_34 : decode cX3_wind 34 = .ok (.getfield 46, 3) := dk_180 0 46 (dk_at dksX3_wind_1 11 rfl rfl)
theorem dX3_wind_37 : decode cX3_wind 37 = .ok (.invokevirtual 75, 3) := dk_182 0 75 (dk_at dksX3_wind_1 14 rfl rfl)
theorem dX3_wind_40 : decode cX3_wind 40 = .ok (.iconst 4, 1) := dk_7 (dk_at dksX3_wind_1 17 rfl rfl)
theorem dX3_wind_41 : decode cX3_wind 41 = .ok (.invokestatic 80, 3) := dk_184 0 80 (dk_at dksX3_wind_1 18 rfl rfl)
theorem dX3_wind_44 : decode cX3_wind 44 = .ok (.ireturn, 1) := dk_172 (dk_at dksX3_wind_1 21 rfl rfl)
abbrev cX3_lines : ByteArray := prog_20_method_4_code
def yX3_lines : MethodName := ⟨RX3, "lines", "(I)I"⟩
def dkwX3_lines_0 : List UInt8 := [27, 5, 162, 0, 10, 42, 180, 0, 15, 167, 0, 7, 42, 180, 0, 9, 172]
abbrev dktX3_lines_0 : List UInt8 := dkwX3_lines_0 ++ []
theorem dksX3_lines_0 : cX3_lines.data.toList.drop 0 = dktX3_lines_0 := by decide +kernel
theorem dX3_lines_0 : decode cX3_lines 0 = .ok (.iload_n 1, 1) := dk_27 (dk_at dksX3_lines_0 0 rfl rfl)
theorem dX3_lines_1 : decode cX3_lines 1 = .ok (.iconst 2, 1) := dk_5 (dk_at dksX3_lines_0 1 rfl rfl)
theorem dX3_lines_2 : decode cX3_lines 2 = .ok (.if_icmp .ge 10, 3) := dk_162 0 10 (dk_at dksX3_lines_0 2 rfl rfl)
theorem dX3_lines_5 : decode cX3_lines 5 = .ok (.aload_n 0, 1) := dk_42 (dk_at dksX3_lines_0 5 rfl rfl)
theorem dX3_lines_6 : decode cX3_lines 6 = .ok (.getfield 15, 3) := dk_180 0 15 (dk_at dksX3_lines_0 6 rfl rfl)
theorem dX3_lines_9 : decode cX3_lines 9 = .ok (.goto 7, 3) := dk_167 0 7 (dk_at dksX3_lines_0 9 rfl rfl)
theorem dX3_lines_12 : decode cX3_lines 12 = .ok (.aload_n 0, 1) := dk_42 (dk_at dksX3_lines_0 12 rfl rfl)
theorem dX3_lines_13 : decode cX3_lines 13 = .ok (.getfield 9, 3) := dk_180 0 9 (dk_at dksX3_lines_0 13 rfl rfl)
theorem dX3_lines_16 : decode cX3_lines 16 = .ok (.ireturn, 1) := dk_172 (dk_at dksX3_lines_0 16 rfl rfl)
abbrev cX3_fog : ByteArray := prog_20_method_6_code
def yX3_fog : MethodName := ⟨RX3, "fog", "(IIII)I"⟩
def dkwX3_fog_3 : List UInt8 := [172]
abbrev dktX3_fog_3 : List UInt8 := dkwX3_fog_3 ++ []
def dkwX3_fog_2 : List UInt8 := [21, 4, 79, 3, 17, 3, 231, 42, 180, 0, 86, 42, 180, 0, 46, 182, 0, 75, 184, 0, 89, 184, 0, 92]
abbrev dktX3_fog_2 : List UInt8 := dkwX3_fog_2 ++ dktX3_fog_3
def dkwX3_fog_1 : List UInt8 := [180, 0, 72, 4, 27, 79, 42, 180, 0, 46, 180, 0, 72, 5, 29, 79, 42, 180, 0, 46, 180, 0, 72, 6]
abbrev dktX3_fog_1 : List UInt8 := dkwX3_fog_1 ++ dktX3_fog_2
def dkwX3_fog_0 : List UInt8 := [42, 180, 0, 86, 199, 0, 6, 16, 20, 172, 42, 180, 0, 46, 180, 0, 72, 3, 28, 79, 42, 180, 0, 46]
abbrev dktX3_fog_0 : List UInt8 := dkwX3_fog_0 ++ dktX3_fog_1
theorem dksX3_fog_0 : cX3_fog.data.toList.drop 0 = dktX3_fog_0 := by decide +kernel
theorem dksX3_fog_1 : cX3_fog.data.toList.drop 24 = dktX3_fog_1 := dk_seg dksX3_fog_0 24 rfl rfl
theorem dksX3_fog_2 : cX3_fog.data.toList.drop 48 = dktX3_fog_2 := dk_seg dksX3_fog_1 24 rfl rfl
theorem dksX3_fog_3 : cX3_fog.data.toList.drop 72 = dktX3_fog_3 := dk_seg dksX3_fog_2 24 rfl rfl
theorem dX3_fog_0 : decode cX3_fog 0 = .ok (.aload_n 0, 1) := dk_42 (dk_at dksX3_fog_0 0 rfl rfl)
theorem dX3_fog_1 : decode cX3_fog 1 = .ok (.getfield 86, 3) := dk_180 0 86 (dk_at dksX3_fog_0 1 rfl rfl)
theorem dX3_fog_4 : decode cX3_fog 4 = .ok (.ifnonnull 6, 3) := dk_199 0 6 (dk_at dksX3_fog_0 4 rfl rfl)
theorem dX3_fog_7 : decode cX3_fog 7 = .ok (.bipush 20, 2) := dk_16 20 (dk_at dksX3_fog_0 7 rfl rfl)
theorem dX3_fog_9 : decode cX3_fog 9 = .ok (.ireturn, 1) := dk_172 (dk_at dksX3_fog_0 9 rfl rfl)
theorem dX3_fog_10 : decode cX3_fog 10 = .ok (.aload_n 0, 1) := dk_42 (dk_at dksX3_fog_0 10 rfl rfl)
theorem dX3_fog_11 : decode cX3_fog 11 = .ok (.getfield 46, 3) := dk_180 0 46 (dk_at dksX3_fog_0 11 rfl rfl)
theorem dX3_fog_14 : decode cX3_fog 14 = .ok (.getfield 72, 3) := dk_180 0 72 (dk_at dksX3_fog_0 14 rfl rfl)
theorem dX3_fog_17 : decode cX3_fog 17 = .ok (.iconst 0, 1) := dk_3 (dk_at dksX3_fog_0 17 rfl rfl)
theorem dX3_fog_18 : decode cX3_fog 18 = .ok (.iload_n 2, 1) := dk_28 (dk_at dksX3_fog_0 18 rfl rfl)
theorem dX3_fog_19 : decode cX3_fog 19 = .ok (.iastore, 1) := dk_79 (dk_at dksX3_fog_0 19 rfl rfl)
theorem dX3_fog_20 : decode cX3_fog 20 = .ok (.aload_n 0, 1) := dk_42 (dk_at dksX3_fog_0 20 rfl rfl)
theorem dX3_fog_21 : decode cX3_fog 21 = .ok (.getfield 46, 3) := dk_180 0 46 (dk_at dksX3_fog_0 21 rfl rfl)
theorem dX3_fog_24 : decode cX3_fog 24 = .ok (.getfield 72, 3) := dk_180 0 72 (dk_at dksX3_fog_1 0 rfl rfl)
theorem dX3_fog_27 : decode cX3_fog 27 = .ok (.iconst 1, 1) := dk_4 (dk_at dksX3_fog_1 3 rfl rfl)
theorem dX3_fog_28 : decode cX3_fog 28 = .ok (.iload_n 1, 1) := dk_27 (dk_at dksX3_fog_1 4 rfl rfl)
theorem dX3_fog_29 : decode cX3_fog 29 = .ok (.iastore, 1) := dk_79 (dk_at dksX3_fog_1 5 rfl rfl)
theorem dX3_fog_30 : decode cX3_fog 30 = .ok (.aload_n 0, 1) := dk_42 (dk_at dksX3_fog_1 6 rfl rfl)
theorem dX3_fog_31 : decode cX3_fog 31 = .ok (.getfield 46, 3) := dk_180 0 46 (dk_at dksX3_fog_1 7 rfl rfl)
theorem dX3_fog_34 : decode cX3_fog 34 = .ok (.getfield 72, 3) := dk_180 0 72 (dk_at dksX3_fog_1 10 rfl rfl)
theorem dX3_fog_37 : decode cX3_fog 37 = .ok (.iconst 2, 1) := dk_5 (dk_at dksX3_fog_1 13 rfl rfl)
theorem dX3_fog_38 : decode cX3_fog 38 = .ok (.iload_n 3, 1) := dk_29 (dk_at dksX3_fog_1 14 rfl rfl)
theorem dX3_fog_39 : decode cX3_fog 39 = .ok (.iastore, 1) := dk_79 (dk_at dksX3_fog_1 15 rfl rfl)
theorem dX3_fog_40 : decode cX3_fog 40 = .ok (.aload_n 0, 1) := dk_42 (dk_at dksX3_fog_1 16 rfl rfl)
theorem dX3_fog_41 : decode cX3_fog 41 = .ok (.getfield 46, 3) := dk_180 0 46 (dk_at dksX3_fog_1 17 rfl rfl)
theorem dX3_fog_44 : decode cX3_fog 44 = .ok (.getfield 72, 3) := dk_180 0 72 (dk_at dksX3_fog_1 20 rfl rfl)
theorem dX3_fog_47 : decode cX3_fog 47 = .ok (.iconst 3, 1) := dk_6 (dk_at dksX3_fog_1 23 rfl rfl)
theorem dX3_fog_48 : decode cX3_fog 48 = .ok (.iload 4, 2) := dk_21 4 (dk_at dksX3_fog_2 0 rfl rfl)
theorem dX3_fog_50 : decode cX3_fog 50 = .ok (.iastore, 1) := dk_79 (dk_at dksX3_fog_2 2 rfl rfl)
theorem dX3_fog_51 : decode cX3_fog 51 = .ok (.iconst 0, 1) := dk_3 (dk_at dksX3_fog_2 3 rfl rfl)
theorem dX3_fog_52 : decode cX3_fog 52 = .ok (.sipush 999, 3) := dk_17 3 231 (dk_at dksX3_fog_2 4 rfl rfl)
theorem dX3_fog_55 : decode cX3_fog 55 = .ok (.aload_n 0, 1) := dk_42 (dk_at dksX3_fog_2 7 rfl rfl)
theorem dX3_fog_56 : decode cX3_fog 56 = .ok (.getfield 86, 3) := dk_180 0 86 (dk_at dksX3_fog_2 8 rfl rfl)
theorem dX3_fog_59 : decode cX3_fog 59 = .ok (.aload_n 0, 1) := dk_42 (dk_at dksX3_fog_2 11 rfl rfl)
theorem dX3_fog_60 : decode cX3_fog 60 = .ok (.getfield 46, 3) := dk_180 0 46 (dk_at dksX3_fog_2 12 rfl rfl)
theorem dX3_fog_63 : decode cX3_fog 63 = .ok (.invokevirtual 75, 3) := dk_182 0 75 (dk_at dksX3_fog_2 15 rfl rfl)
theorem dX3_fog_66 : decode cX3_fog 66 = .ok (.invokestatic 89, 3) := dk_184 0 89 (dk_at dksX3_fog_2 18 rfl rfl)
theorem dX3_fog_69 : decode cX3_fog 69 = .ok (.invokestatic 92, 3) := dk_184 0 92 (dk_at dksX3_fog_2 21 rfl rfl)
theorem dX3_fog_72 : decode cX3_fog 72 = .ok (.ireturn, 1) := dk_172 (dk_at dksX3_fog_3 0 rfl rfl)
abbrev cX3_length : ByteArray := prog_20_method_8_code
def yX3_length : MethodName := ⟨RX3, "length", "(I)I"⟩
def dkwX3_length_0 : List UInt8 := [27, 5, 162, 0, 10, 42, 180, 0, 9, 167, 0, 7, 42, 180, 0, 15, 172]
abbrev dktX3_length_0 : List UInt8 := dkwX3_length_0 ++ []
theorem dksX3_length_0 : cX3_length.data.toList.drop 0 = dktX3_length_0 := by decide +kernel
theorem dX3_length_0 : decode cX3_length 0 = .ok (.iload_n 1, 1) := dk_27 (dk_at dksX3_length_0 0 rfl rfl)
theorem dX3_length_1 : decode cX3_length 1 = .ok (.iconst 2, 1) := dk_5 (dk_at dksX3_length_0 1 rfl rfl)
theorem dX3_length_2 : decode cX3_length 2 = .ok (.if_icmp .ge 10, 3) := dk_162 0 10 (dk_at dksX3_length_0 2 rfl rfl)
theorem dX3_length_5 : decode cX3_length 5 = .ok (.aload_n 0, 1) := dk_42 (dk_at dksX3_length_0 5 rfl rfl)
theorem dX3_length_6 : decode cX3_length 6 = .ok (.getfield 9, 3) := dk_180 0 9 (dk_at dksX3_length_0 6 rfl rfl)
theorem dX3_length_9 : decode cX3_length 9 = .ok (.goto 7, 3) := dk_167 0 7 (dk_at dksX3_length_0 9 rfl rfl)
theorem dX3_length_12 : decode cX3_length 12 = .ok (.aload_n 0, 1) := dk_42 (dk_at dksX3_length_0 12 rfl rfl)
theorem dX3_length_13 : decode cX3_length 13 = .ok (.getfield 15, 3) := dk_180 0 15 (dk_at dksX3_length_0 13 rfl rfl)
theorem dX3_length_16 : decode cX3_length 16 = .ok (.ireturn, 1) := dk_172 (dk_at dksX3_length_0 16 rfl rfl)
abbrev cX3_place : ByteArray := prog_20_method_7_code
def yX3_place : MethodName := ⟨RX3, "place", "(III)I"⟩
def dkwX3_place_3 : List UInt8 := [104, 28, 96, 172, 16, 8, 42, 180, 0, 15, 4, 100, 29, 100, 104, 28, 96, 172]
abbrev dktX3_place_3 : List UInt8 := dkwX3_place_3 ++ []
def dkwX3_place_2 : List UInt8 := [16, 8, 28, 104, 29, 96, 172, 16, 8, 28, 104, 42, 180, 0, 9, 96, 4, 100, 29, 100, 172, 16, 8, 29]
abbrev dktX3_place_2 : List UInt8 := dkwX3_place_2 ++ dktX3_place_3
def dkwX3_place_1 : List UInt8 := [170, 0, 0, 0, 0, 0, 55, 0, 0, 0, 0, 0, 0, 0, 2, 0, 0, 0, 27, 0, 0, 0, 34, 0, 0, 0, 48]
abbrev dktX3_place_1 : List UInt8 := dkwX3_place_1 ++ dktX3_place_2
def dkwX3_place_0 : List UInt8 := [27]
abbrev dktX3_place_0 : List UInt8 := dkwX3_place_0 ++ dktX3_place_1
theorem dksX3_place_0 : cX3_place.data.toList.drop 0 = dktX3_place_0 := by decide +kernel
theorem dksX3_place_1 : cX3_place.data.toList.drop 1 = dktX3_place_1 := dk_seg dksX3_place_0 1 rfl rfl
theorem dksX3_place_2 : cX3_place.data.toList.drop 28 = dktX3_place_2 := dk_seg dksX3_place_1 27 rfl rfl
theorem dksX3_place_3 : cX3_place.data.toList.drop 52 = dktX3_place_3 := dk_seg dksX3_place_2 24 rfl rfl
theorem dX3_place_0 : decode cX3_place 0 = .ok (.iload_n 1, 1) := dk_27 (dk_at dksX3_place_0 0 rfl rfl)
theorem dX3_place_1 : decode cX3_place 1 = .ok (.tableswitch 55 0 2 #[27, 34, 48], 27) := by decide +kernel
theorem dX3_place_28 : decode cX3_place 28 = .ok (.bipush 8, 2) := dk_16 8 (dk_at dksX3_place_2 0 rfl rfl)
theorem dX3_place_30 : decode cX3_place 30 = .ok (.iload_n 2, 1) := dk_28 (dk_at dksX3_place_2 2 rfl rfl)
theorem dX3_place_31 : decode cX3_place 31 = .ok (.imul, 1) := dk_104 (dk_at dksX3_place_2 3 rfl rfl)
theorem dX3_place_32 : decode cX3_place 32 = .ok (.iload_n 3, 1) := dk_29 (dk_at dksX3_place_2 4 rfl rfl)
theorem dX3_place_33 : decode cX3_place 33 = .ok (.iadd, 1) := dk_96 (dk_at dksX3_place_2 5 rfl rfl)
theorem dX3_place_34 : decode cX3_place 34 = .ok (.ireturn, 1) := dk_172 (dk_at dksX3_place_2 6 rfl rfl)
theorem dX3_place_35 : decode cX3_place 35 = .ok (.bipush 8, 2) := dk_16 8 (dk_at dksX3_place_2 7 rfl rfl)
theorem dX3_place_37 : decode cX3_place 37 = .ok (.iload_n 2, 1) := dk_28 (dk_at dksX3_place_2 9 rfl rfl)
theorem dX3_place_38 : decode cX3_place 38 = .ok (.imul, 1) := dk_104 (dk_at dksX3_place_2 10 rfl rfl)
theorem dX3_place_39 : decode cX3_place 39 = .ok (.aload_n 0, 1) := dk_42 (dk_at dksX3_place_2 11 rfl rfl)
theorem dX3_place_40 : decode cX3_place 40 = .ok (.getfield 9, 3) := dk_180 0 9 (dk_at dksX3_place_2 12 rfl rfl)
theorem dX3_place_43 : decode cX3_place 43 = .ok (.iadd, 1) := dk_96 (dk_at dksX3_place_2 15 rfl rfl)
theorem dX3_place_44 : decode cX3_place 44 = .ok (.iconst 1, 1) := dk_4 (dk_at dksX3_place_2 16 rfl rfl)
theorem dX3_place_45 : decode cX3_place 45 = .ok (.isub, 1) := dk_100 (dk_at dksX3_place_2 17 rfl rfl)
theorem dX3_place_46 : decode cX3_place 46 = .ok (.iload_n 3, 1) := dk_29 (dk_at dksX3_place_2 18 rfl rfl)
theorem dX3_place_47 : decode cX3_place 47 = .ok (.isub, 1) := dk_100 (dk_at dksX3_place_2 19 rfl rfl)
theorem dX3_place_48 : decode cX3_place 48 = .ok (.ireturn, 1) := dk_172 (dk_at dksX3_place_2 20 rfl rfl)
theorem dX3_place_49 : decode cX3_place 49 = .ok (.bipush 8, 2) := dk_16 8 (dk_at dksX3_place_2 21 rfl rfl)
theorem dX3_place_51 : decode cX3_place 51 = .ok (.iload_n 3, 1) := dk_29 (dk_at dksX3_place_2 23 rfl rfl)
theorem dX3_place_52 : decode cX3_place 52 = .ok (.imul, 1) := dk_104 (dk_at dksX3_place_3 0 rfl rfl)
theorem dX3_place_53 : decode cX3_place 53 = .ok (.iload_n 2, 1) := dk_28 (dk_at dksX3_place_3 1 rfl rfl)
theorem dX3_place_54 : decode cX3_place 54 = .ok (.iadd, 1) := dk_96 (dk_at dksX3_place_3 2 rfl rfl)
theorem dX3_place_55 : decode cX3_place 55 = .ok (.ireturn, 1) := dk_172 (dk_at dksX3_place_3 3 rfl rfl)
theorem dX3_place_56 : decode cX3_place 56 = .ok (.bipush 8, 2) := dk_16 8 (dk_at dksX3_place_3 4 rfl rfl)
theorem dX3_place_58 : decode cX3_place 58 = .ok (.aload_n 0, 1) := dk_42 (dk_at dksX3_place_3 6 rfl rfl)
theorem dX3_place_59 : decode cX3_place 59 = .ok (.getfield 15, 3) := dk_180 0 15 (dk_at dksX3_place_3 7 rfl rfl)
theorem dX3_place_62 : decode cX3_place 62 = .ok (.iconst 1, 1) := dk_4 (dk_at dksX3_place_3 10 rfl rfl)
theorem dX3_place_63 : decode cX3_place 63 = .ok (.isub, 1) := dk_100 (dk_at dksX3_place_3 11 rfl rfl)
theorem dX3_place_64 : decode cX3_place 64 = .ok (.iload_n 3, 1) := dk_29 (dk_at dksX3_place_3 12 rfl rfl)
theorem dX3_place_65 : decode cX3_place 65 = .ok (.isub, 1) := dk_100 (dk_at dksX3_place_3 13 rfl rfl)
theorem dX3_place_66 : decode cX3_place 66 = .ok (.imul, 1) := dk_104 (dk_at dksX3_place_3 14 rfl rfl)
theorem dX3_place_67 : decode cX3_place 67 = .ok (.iload_n 2, 1) := dk_28 (dk_at dksX3_place_3 15 rfl rfl)
theorem dX3_place_68 : decode cX3_place 68 = .ok (.iadd, 1) := dk_96 (dk_at dksX3_place_3 16 rfl rfl)
theorem dX3_place_69 : decode cX3_place 69 = .ok (.ireturn, 1) := dk_172 (dk_at dksX3_place_3 17 rfl rfl)
abbrev cX3_isPlace : ByteArray := prog_20_method_3_code
def yX3_isPlace : MethodName := ⟨RX3, "isPlace", "(I)Z"⟩
def dkwX3_isPlace_1 : List UInt8 := [108, 42, 180, 0, 15, 162, 0, 7, 4, 167, 0, 4, 3, 172]
abbrev dktX3_isPlace_1 : List UInt8 := dkwX3_isPlace_1 ++ []
def dkwX3_isPlace_0 : List UInt8 := [27, 3, 16, 63, 184, 0, 64, 153, 0, 29, 27, 16, 8, 112, 42, 180, 0, 9, 162, 0, 18, 27, 16, 8]
abbrev dktX3_isPlace_0 : List UInt8 := dkwX3_isPlace_0 ++ dktX3_isPlace_1
theorem dksX3_isPlace_0 : cX3_isPlace.data.toList.drop 0 = dktX3_isPlace_0 := by decide +kernel
theorem dksX3_isPlace_1 : cX3_isPlace.data.toList.drop 24 = dktX3_isPlace_1 := dk_seg dksX3_isPlace_0 24 rfl rfl
theorem dX3_isPlace_0 : decode cX3_isPlace 0 = .ok (.iload_n 1, 1) := dk_27 (dk_at dksX3_isPlace_0 0 rfl rfl)
theorem dX3_isPlace_1 : decode cX3_isPlace 1 = .ok (.iconst 0, 1) := dk_3 (dk_at dksX3_isPlace_0 1 rfl rfl)
theorem dX3_isPlace_2 : decode cX3_isPlace 2 = .ok (.bipush 63, 2) := dk_16 63 (dk_at dksX3_isPlace_0 2 rfl rfl)
theorem dX3_isPlace_4 : decode cX3_isPlace 4 = .ok (.invokestatic 64, 3) := dk_184 0 64 (dk_at dksX3_isPlace_0 4 rfl rfl)
theorem dX3_isPlace_7 : decode cX3_isPlace 7 = .ok (.ifCond .eq 29, 3) := dk_153 0 29 (dk_at dksX3_isPlace_0 7 rfl rfl)
theorem dX3_isPlace_10 : decode cX3_isPlace 10 = .ok (.iload_n 1, 1) := dk_27 (dk_at dksX3_isPlace_0 10 rfl rfl)
theorem dX3_isPlace_11 : decode cX3_isPlace 11 = .ok (.bipush 8, 2) := dk_16 8 (dk_at dksX3_isPlace_0 11 rfl rfl)
theorem dX3_isPlace_13 : decode cX3_isPlace 13 = .ok (.irem, 1) := dk_112 (dk_at dksX3_isPlace_0 13 rfl rfl)
theorem dX3_isPlace_14 : decode cX3_isPlace 14 = .ok (.aload_n 0, 1) := dk_42 (dk_at dksX3_isPlace_0 14 rfl rfl)
theorem dX3_isPlace_15 : decode cX3_isPlace 15 = .ok (.getfield 9, 3) := dk_180 0 9 (dk_at dksX3_isPlace_0 15 rfl rfl)
theorem dX3_isPlace_18 : decode cX3_isPlace 18 = .ok (.if_icmp .ge 18, 3) := dk_162 0 18 (dk_at dksX3_isPlace_0 18 rfl rfl)
theorem dX3_isPlace_21 : decode cX3_isPlace 21 = .ok (.iload_n 1, 1) := dk_27 (dk_at dksX3_isPlace_0 21 rfl rfl)
theorem dX3_isPlace_22 : decode cX3_isPlace 22 = .ok (.bipush 8, 2) := dk_16 8 (dk_at dksX3_isPlace_0 22 rfl rfl)
theorem dX3_isPlace_24 : decode cX3_isPlace 24 = .ok (.idiv, 1) := dk_108 (dk_at dksX3_isPlace_1 0 rfl rfl)
theorem dX3_isPlace_25 : decode cX3_isPlace 25 = .ok (.aload_n 0, 1) := dk_42 (dk_at dksX3_isPlace_1 1 rfl rfl)
theorem dX3_isPlace_26 : decode cX3_isPlace 26 = .ok (.getfield 15, 3) := dk_180 0 15 (dk_at dksX3_isPlace_1 2 rfl rfl)
theorem dX3_isPlace_29 : decode cX3_isPlace 29 = .ok (.if_icmp .ge 7, 3) := dk_162 0 7 (dk_at dksX3_isPlace_1 5 rfl rfl)
theorem dX3_isPlace_32 : decode cX3_isPlace 32 = .ok (.iconst 1, 1) := dk_4 (dk_at dksX3_isPlace_1 8 rfl rfl)
theorem dX3_isPlace_33 : decode cX3_isPlace 33 = .ok (.goto 4, 3) := dk_167 0 4 (dk_at dksX3_isPlace_1 9 rfl rfl)
theorem dX3_isPlace_36 : decode cX3_isPlace 36 = .ok (.iconst 0, 1) := dk_3 (dk_at dksX3_isPlace_1 12 rfl rfl)
theorem dX3_isPlace_37 : decode cX3_isPlace 37 = .ok (.ireturn, 1) := dk_172 (dk_at dksX3_isPlace_1 13 rfl rfl)
theorem q95 : (Jvm.Cond.initialized "FogNets$Ridge") ∈ lw_all := lw_g (lw_at lw_m1 3 rfl) rfl
theorem q235 : (Jvm.Cond.instantiable "FogNets$Ridge" (13 : Nat)) ∈ lw_all := lw_g (lw_at lw_m1 143 rfl) rfl
theorem q237 : (Jvm.Cond.instanceMethod ({ cls := "FogNets$Ridge", name := "<init>", desc := "()V" } : Jvm.MethodName)) ∈ lw_all := lw_g (lw_at lw_m1 145 rfl) rfl
theorem q238 : (Jvm.Cond.code ({ cls := "FogNets$Ridge", name := "<init>", desc := "()V" } : Jvm.MethodName) prog_20_method_1_code (1 : Nat) (Option.none : Option Jvm.ClassFile.FieldType)) ∈ lw_all := lw_g (lw_at lw_m1 146 rfl) rfl
theorem q239 : (Jvm.Cond.methodLink "FogNets$Ridge" (3 : Nat) ({ cls := "java/lang/Object", name := "<init>", desc := "()V" } : Jvm.MethodName)) ∈ lw_all := lw_g (lw_at lw_m1 147 rfl) rfl
theorem q240 : (Jvm.Cond.classLink "FogNets$Ridge" (21 : Nat) "java/util/ArrayList") ∈ lw_all := lw_g (lw_at lw_m1 148 rfl) rfl
theorem q242 : (Jvm.Cond.methodLink "FogNets$Ridge" (23 : Nat) ({ cls := "java/util/ArrayList", name := "<init>", desc := "(I)V" } : Jvm.MethodName)) ∈ lw_all := lw_g (lw_at lw_m1 150 rfl) rfl
theorem q268 : (Jvm.Cond.classLink "FogNets$Ridge" (43 : Nat) "FogNets$Facts") ∈ lw_all := lw_g (lw_at lw_m1 176 rfl) rfl
theorem q270 : (Jvm.Cond.methodLinkNest "FogNets$Ridge" (45 : Nat) ({ cls := "FogNets$Facts", name := "<init>", desc := "()V" } : Jvm.MethodName) "FogNets") ∈ lw_tbl := lw_at lw_m1 178 rfl
theorem q276 : (Jvm.Cond.fieldLink "FogNets$Ridge" (72 : Nat) "FogNets$Facts" "of" "[I") ∈ lw_all := lw_g (lw_at lw_m1 184 rfl) rfl
theorem q280 : (Jvm.Cond.fieldLink "FogNets$Ridge" (9 : Nat) "FogNets$Ridge" "columns" "I") ∈ lw_all := lw_g (lw_at lw_m1 188 rfl) rfl
theorem q283 : (Jvm.Cond.fieldLink "FogNets$Ridge" (15 : Nat) "FogNets$Ridge" "rows" "I") ∈ lw_all := lw_g (lw_at lw_m1 191 rfl) rfl
theorem q286 : (Jvm.Cond.fieldLink "FogNets$Ridge" (18 : Nat) "FogNets$Ridge" "hours" "I") ∈ lw_all := lw_g (lw_at lw_m1 194 rfl) rfl
theorem q295 : (Jvm.Cond.fieldLink "FogNets$Ridge" (68 : Nat) "FogNets$Ridge" "wind" "LFogNets$Expression;") ∈ lw_all := lw_g (lw_at lw_m1 203 rfl) rfl
theorem q297 : (Jvm.Cond.fieldLink "FogNets$Ridge" (86 : Nat) "FogNets$Ridge" "fog" "LFogNets$Expression;") ∈ lw_all := lw_g (lw_at lw_m1 205 rfl) rfl
theorem q299 : (Jvm.Cond.fieldLink "FogNets$Ridge" (26 : Nat) "FogNets$Ridge" "names" "Ljava/util/ArrayList;") ∈ lw_all := lw_g (lw_at lw_m1 207 rfl) rfl
theorem q303 : (Jvm.Cond.fieldLink "FogNets$Ridge" (30 : Nat) "FogNets$Ridge" "thirst" "[I") ∈ lw_all := lw_g (lw_at lw_m1 211 rfl) rfl
theorem q307 : (Jvm.Cond.fieldLink "FogNets$Ridge" (34 : Nat) "FogNets$Ridge" "tank" "[I") ∈ lw_all := lw_g (lw_at lw_m1 215 rfl) rfl
theorem q310 : (Jvm.Cond.fieldLink "FogNets$Ridge" (37 : Nat) "FogNets$Ridge" "nets" "Ljava/util/ArrayList;") ∈ lw_all := lw_g (lw_at lw_m1 218 rfl) rfl
theorem q313 : (Jvm.Cond.fieldLink "FogNets$Ridge" (40 : Nat) "FogNets$Ridge" "at" "[I") ∈ lw_all := lw_g (lw_at lw_m1 221 rfl) rfl
theorem q316 : (Jvm.Cond.fieldLink "FogNets$Ridge" (46 : Nat) "FogNets$Ridge" "facts" "LFogNets$Facts;") ∈ lw_all := lw_g (lw_at lw_m1 224 rfl) rfl
theorem q317 : (Jvm.Cond.lays "FogNets$Ridge" "FogNets$Ridge" "columns" "I") ∈ lw_all := lw_g (lw_at lw_m1 225 rfl) rfl
theorem q318 : (Jvm.Cond.soleField "FogNets$Ridge" "columns") ∈ lw_all := lw_g (lw_at lw_m1 226 rfl) rfl
theorem q319 : (Jvm.Cond.lays "FogNets$Ridge" "FogNets$Ridge" "rows" "I") ∈ lw_all := lw_g (lw_at lw_m1 227 rfl) rfl
theorem q320 : (Jvm.Cond.soleField "FogNets$Ridge" "rows") ∈ lw_all := lw_g (lw_at lw_m1 228 rfl) rfl
theorem q321 : (Jvm.Cond.lays "FogNets$Ridge" "FogNets$Ridge" "hours" "I") ∈ lw_all := lw_g (lw_at lw_m1 229 rfl) rfl
theorem q322 : (Jvm.Cond.soleField "FogNets$Ridge" "hours") ∈ lw_all := lw_g (lw_at lw_m1 230 rfl) rfl
theorem q323 : (Jvm.Cond.lays "FogNets$Ridge" "FogNets$Ridge" "dew" "I") ∈ lw_all := lw_g (lw_at lw_m1 231 rfl) rfl
theorem q324 : (Jvm.Cond.soleField "FogNets$Ridge" "dew") ∈ lw_all := lw_g (lw_at lw_m1 232 rfl) rfl
theorem q325 : (Jvm.Cond.lays "FogNets$Ridge" "FogNets$Ridge" "turns" "I") ∈ lw_all := lw_g (lw_at lw_m1 233 rfl) rfl
theorem q326 : (Jvm.Cond.soleField "FogNets$Ridge" "turns") ∈ lw_all := lw_g (lw_at lw_m1 234 rfl) rfl
theorem q327 : (Jvm.Cond.lays "FogNets$Ridge" "FogNets$Ridge" "wind" "LFogNets$Expression;") ∈ lw_all := lw_g (lw_at lw_m1 235 rfl) rfl
theorem q328 : (Jvm.Cond.soleField "FogNets$Ridge" "wind") ∈ lw_all := lw_g (lw_at lw_m1 236 rfl) rfl
theorem q329 : (Jvm.Cond.lays "FogNets$Ridge" "FogNets$Ridge" "fog" "LFogNets$Expression;") ∈ lw_all := lw_g (lw_at lw_m1 237 rfl) rfl
theorem q330 : (Jvm.Cond.soleField "FogNets$Ridge" "fog") ∈ lw_all := lw_g (lw_at lw_m1 238 rfl) rfl
theorem q331 : (Jvm.Cond.laysFinal "FogNets$Ridge" "FogNets$Ridge" "names" "Ljava/util/ArrayList;") ∈ lw_all := lw_g (lw_at lw_m1 239 rfl) rfl
theorem q332 : (Jvm.Cond.soleField "FogNets$Ridge" "names") ∈ lw_all := lw_g (lw_at lw_m2 0 rfl) rfl
theorem q333 : (Jvm.Cond.laysFinal "FogNets$Ridge" "FogNets$Ridge" "thirst" "[I") ∈ lw_all := lw_g (lw_at lw_m2 1 rfl) rfl
theorem q334 : (Jvm.Cond.soleField "FogNets$Ridge" "thirst") ∈ lw_all := lw_g (lw_at lw_m2 2 rfl) rfl
theorem q335 : (Jvm.Cond.laysFinal "FogNets$Ridge" "FogNets$Ridge" "tank" "[I") ∈ lw_all := lw_g (lw_at lw_m2 3 rfl) rfl
theorem q336 : (Jvm.Cond.soleField "FogNets$Ridge" "tank") ∈ lw_all := lw_g (lw_at lw_m2 4 rfl) rfl
theorem q337 : (Jvm.Cond.laysFinal "FogNets$Ridge" "FogNets$Ridge" "nets" "Ljava/util/ArrayList;") ∈ lw_all := lw_g (lw_at lw_m2 5 rfl) rfl
theorem q338 : (Jvm.Cond.soleField "FogNets$Ridge" "nets") ∈ lw_all := lw_g (lw_at lw_m2 6 rfl) rfl
theorem q339 : (Jvm.Cond.laysFinal "FogNets$Ridge" "FogNets$Ridge" "at" "[I") ∈ lw_all := lw_g (lw_at lw_m2 7 rfl) rfl
theorem q340 : (Jvm.Cond.soleField "FogNets$Ridge" "at") ∈ lw_all := lw_g (lw_at lw_m2 8 rfl) rfl
theorem q341 : (Jvm.Cond.laysFinal "FogNets$Ridge" "FogNets$Ridge" "facts" "LFogNets$Facts;") ∈ lw_all := lw_g (lw_at lw_m2 9 rfl) rfl
theorem q342 : (Jvm.Cond.soleField "FogNets$Ridge" "facts") ∈ lw_all := lw_g (lw_at lw_m2 10 rfl) rfl
theorem q343 : (Jvm.Cond.superclass "FogNets$Ridge" "java/lang/Object") ∈ lw_all := lw_g (lw_at lw_m2 11 rfl) rfl
theorem q877 : (Jvm.Cond.selects "FogNets$Ridge" ({ cls := "java/lang/Object", name := "getClass", desc := "()Ljava/lang/Class;" } : Jvm.MethodName) ({ cls := "java/lang/Object", name := "getClass", desc := "()Ljava/lang/Class;" } : Jvm.MethodName)) ∈ lw_all := lw_g (lw_at lw_m4 65 rfl) rfl
theorem q959 : (Jvm.Cond.instanceMethod ({ cls := "FogNets$Ridge", name := "find", desc := "(J)I" } : Jvm.MethodName)) ∈ lw_all := lw_g (lw_at lw_m4 147 rfl) rfl
theorem q960 : (Jvm.Cond.selects "FogNets$Ridge" ({ cls := "FogNets$Ridge", name := "find", desc := "(J)I" } : Jvm.MethodName) ({ cls := "FogNets$Ridge", name := "find", desc := "(J)I" } : Jvm.MethodName)) ∈ lw_all := lw_g (lw_at lw_m4 148 rfl) rfl
theorem q961 : (Jvm.Cond.code ({ cls := "FogNets$Ridge", name := "find", desc := "(J)I" } : Jvm.MethodName) prog_20_method_2_code (4 : Nat) (Option.some Jvm.ClassFile.FieldType.int)) ∈ lw_all := lw_g (lw_at lw_m4 149 rfl) rfl
theorem q962 : (Jvm.Cond.methodLink "FogNets$Ridge" (50 : Nat) ({ cls := "java/util/ArrayList", name := "size", desc := "()I" } : Jvm.MethodName)) ∈ lw_all := lw_g (lw_at lw_m4 150 rfl) rfl
theorem q963 : (Jvm.Cond.methodLink "FogNets$Ridge" (54 : Nat) ({ cls := "java/util/ArrayList", name := "get", desc := "(I)Ljava/lang/Object;" } : Jvm.MethodName)) ∈ lw_all := lw_g (lw_at lw_m4 151 rfl) rfl
theorem q964 : (Jvm.Cond.classLink "FogNets$Ridge" (58 : Nat) "java/lang/Long") ∈ lw_all := lw_g (lw_at lw_m4 152 rfl) rfl
theorem q965 : (Jvm.Cond.methodLink "FogNets$Ridge" (60 : Nat) ({ cls := "java/lang/Long", name := "longValue", desc := "()J" } : Jvm.MethodName)) ∈ lw_all := lw_g (lw_at lw_m4 153 rfl) rfl
theorem q1129 : (Jvm.Cond.instanceMethod ({ cls := "FogNets$Ridge", name := "wind", desc := "(II)I" } : Jvm.MethodName)) ∈ lw_all := lw_g (lw_at lw_m5 77 rfl) rfl
theorem q1130 : (Jvm.Cond.selects "FogNets$Ridge" ({ cls := "FogNets$Ridge", name := "wind", desc := "(II)I" } : Jvm.MethodName) ({ cls := "FogNets$Ridge", name := "wind", desc := "(II)I" } : Jvm.MethodName)) ∈ lw_all := lw_g (lw_at lw_m5 78 rfl) rfl
theorem q1131 : (Jvm.Cond.code ({ cls := "FogNets$Ridge", name := "wind", desc := "(II)I" } : Jvm.MethodName) prog_20_method_5_code (3 : Nat) (Option.some Jvm.ClassFile.FieldType.int)) ∈ lw_all := lw_g (lw_at lw_m5 79 rfl) rfl
theorem q1132 : (Jvm.Cond.methodLink "FogNets$Ridge" (75 : Nat) ({ cls := "FogNets$Expression", name := "of", desc := "(LFogNets$Facts;)I" } : Jvm.MethodName)) ∈ lw_all := lw_g (lw_at lw_m5 80 rfl) rfl
theorem q1188 : (Jvm.Cond.methodLink "FogNets$Ridge" (80 : Nat) ({ cls := "java/lang/Math", name := "floorMod", desc := "(II)I" } : Jvm.MethodName)) ∈ lw_all := lw_g (lw_at lw_m5 136 rfl) rfl
theorem q1196 : (Jvm.Cond.instanceMethod ({ cls := "FogNets$Ridge", name := "lines", desc := "(I)I" } : Jvm.MethodName)) ∈ lw_all := lw_g (lw_at lw_m5 144 rfl) rfl
theorem q1197 : (Jvm.Cond.selects "FogNets$Ridge" ({ cls := "FogNets$Ridge", name := "lines", desc := "(I)I" } : Jvm.MethodName) ({ cls := "FogNets$Ridge", name := "lines", desc := "(I)I" } : Jvm.MethodName)) ∈ lw_all := lw_g (lw_at lw_m5 145 rfl) rfl
theorem q1198 : (Jvm.Cond.code ({ cls := "FogNets$Ridge", name := "lines", desc := "(I)I" } : Jvm.MethodName) prog_20_method_4_code (2 : Nat) (Option.some Jvm.ClassFile.FieldType.int)) ∈ lw_all := lw_g (lw_at lw_m5 146 rfl) rfl
theorem q1200 : (Jvm.Cond.instanceMethod ({ cls := "FogNets$Ridge", name := "fog", desc := "(IIII)I" } : Jvm.MethodName)) ∈ lw_all := lw_g (lw_at lw_m5 148 rfl) rfl
theorem q1201 : (Jvm.Cond.selects "FogNets$Ridge" ({ cls := "FogNets$Ridge", name := "fog", desc := "(IIII)I" } : Jvm.MethodName) ({ cls := "FogNets$Ridge", name := "fog", desc := "(IIII)I" } : Jvm.MethodName)) ∈ lw_all := lw_g (lw_at lw_m5 149 rfl) rfl
theorem q1202 : (Jvm.Cond.code ({ cls := "FogNets$Ridge", name := "fog", desc := "(IIII)I" } : Jvm.MethodName) prog_20_method_6_code (5 : Nat) (Option.some Jvm.ClassFile.FieldType.int)) ∈ lw_all := lw_g (lw_at lw_m5 150 rfl) rfl
theorem q1203 : (Jvm.Cond.methodLink "FogNets$Ridge" (89 : Nat) ({ cls := "java/lang/Math", name := "min", desc := "(II)I" } : Jvm.MethodName)) ∈ lw_all := lw_g (lw_at lw_m5 151 rfl) rfl
theorem q1204 : (Jvm.Cond.methodLink "FogNets$Ridge" (92 : Nat) ({ cls := "java/lang/Math", name := "max", desc := "(II)I" } : Jvm.MethodName)) ∈ lw_all := lw_g (lw_at lw_m5 152 rfl) rfl
theorem q1215 : (Jvm.Cond.instanceMethod ({ cls := "FogNets$Ridge", name := "length", desc := "(I)I" } : Jvm.MethodName)) ∈ lw_all := lw_g (lw_at lw_m5 163 rfl) rfl
theorem q1216 : (Jvm.Cond.selects "FogNets$Ridge" ({ cls := "FogNets$Ridge", name := "length", desc := "(I)I" } : Jvm.MethodName) ({ cls := "FogNets$Ridge", name := "length", desc := "(I)I" } : Jvm.MethodName)) ∈ lw_all := lw_g (lw_at lw_m5 164 rfl) rfl
theorem q1217 : (Jvm.Cond.code ({ cls := "FogNets$Ridge", name := "length", desc := "(I)I" } : Jvm.MethodName) prog_20_method_8_code (2 : Nat) (Option.some Jvm.ClassFile.FieldType.int)) ∈ lw_all := lw_g (lw_at lw_m5 165 rfl) rfl
theorem q1219 : (Jvm.Cond.instanceMethod ({ cls := "FogNets$Ridge", name := "place", desc := "(III)I" } : Jvm.MethodName)) ∈ lw_all := lw_g (lw_at lw_m5 167 rfl) rfl
theorem q1220 : (Jvm.Cond.selects "FogNets$Ridge" ({ cls := "FogNets$Ridge", name := "place", desc := "(III)I" } : Jvm.MethodName) ({ cls := "FogNets$Ridge", name := "place", desc := "(III)I" } : Jvm.MethodName)) ∈ lw_all := lw_g (lw_at lw_m5 168 rfl) rfl
theorem q1221 : (Jvm.Cond.code ({ cls := "FogNets$Ridge", name := "place", desc := "(III)I" } : Jvm.MethodName) prog_20_method_7_code (4 : Nat) (Option.some Jvm.ClassFile.FieldType.int)) ∈ lw_all := lw_g (lw_at lw_m5 169 rfl) rfl
theorem q1315 : (Jvm.Cond.instanceMethod ({ cls := "FogNets$Ridge", name := "isPlace", desc := "(I)Z" } : Jvm.MethodName)) ∈ lw_all := lw_g (lw_at lw_m6 23 rfl) rfl
theorem q1316 : (Jvm.Cond.selects "FogNets$Ridge" ({ cls := "FogNets$Ridge", name := "isPlace", desc := "(I)Z" } : Jvm.MethodName) ({ cls := "FogNets$Ridge", name := "isPlace", desc := "(I)Z" } : Jvm.MethodName)) ∈ lw_all := lw_g (lw_at lw_m6 24 rfl) rfl
theorem q1317 : (Jvm.Cond.code ({ cls := "FogNets$Ridge", name := "isPlace", desc := "(I)Z" } : Jvm.MethodName) prog_20_method_3_code (2 : Nat) (Option.some Jvm.ClassFile.FieldType.boolean)) ∈ lw_all := lw_g (lw_at lw_m6 25 rfl) rfl
theorem q1318 : (Jvm.Cond.methodLinkNest "FogNets$Ridge" (64 : Nat) ({ cls := "FogNets", name := "within", desc := "(III)Z" } : Jvm.MethodName) "FogNets") ∈ lw_tbl := lw_at lw_m6 26 rfl
theorem q2066 : (Jvm.Cond.castable "FogNets$Ridge" "java/lang/Object") ∈ lw_tbl := lw_at lw_m9 54 rfl
theorem in_X3 : ∀ w ∈ wsX30, w ∈ lw_all := lw_in wsX30 [317, 319, 321, 323, 325, 327, 329, 331, 333, 335, 337, 339, 341] (by decide +kernel) (by decide +kernel)

/-! FogNets$Facts -/
set_option maxRecDepth 100000
def RX4 : String := "FogNets$Facts"
def TX4 : u_T := fun k => match k with
  | _ => ("FogNets$Facts", "of", "[I", true)
def tyX4 : Nat → FieldType := fun k => match k with
  | _ => .array .int
abbrev wsX40 : List Cond := u_ws RX4 TX4 1
theorem nmX4 : ∀ a, a < 1 → ∀ b, b < 1 → a ≠ b → (TX4 a).2.1 ≠ (TX4 b).2.1 := by decide +kernel
theorem tyX4_ok : ∀ k, k < 1 → parseFieldDescriptor (TX4 k).2.2.1 = some (tyX4 k) := by decide +kernel
abbrev cX4_init : ByteArray := prog_7_method_1_code
def yX4_init : MethodName := ⟨RX4, "<init>", "()V"⟩
def dkwX4_init_0 : List UInt8 := [42, 183, 0, 1, 42, 7, 188, 10, 181, 0, 9, 177]
abbrev dktX4_init_0 : List UInt8 := dkwX4_init_0 ++ []
theorem dksX4_init_0 : cX4_init.data.toList.drop 0 = dktX4_init_0 := by decide +kernel
theorem dX4_init_0 : decode cX4_init 0 = .ok (.aload_n 0, 1) := dk_42 (dk_at dksX4_init_0 0 rfl rfl)
theorem dX4_init_1 : decode cX4_init 1 = .ok (.invokespecial 1, 3) := dk_183 0 1 (dk_at dksX4_init_0 1 rfl rfl)
theorem dX4_init_4 : decode cX4_init 4 = .ok (.aload_n 0, 1) := dk_42 (dk_at dksX4_init_0 4 rfl rfl)
theorem dX4_init_5 : decode cX4_init 5 = .ok (.iconst 4, 1) := dk_7 (dk_at dksX4_init_0 5 rfl rfl)
theorem dX4_init_6 : decode cX4_init 6 = .ok (.newarray .int, 2) := dk_188_10 (dk_at dksX4_init_0 6 rfl rfl)
theorem dX4_init_8 : decode cX4_init 8 = .ok (.putfield 9, 3) := dk_181 0 9 (dk_at dksX4_init_0 8 rfl rfl)
theorem dX4_init_11 : decode cX4_init 11 = .ok (.return_, 1) := dk_177 (dk_at dksX4_init_0 11 rfl rfl)
theorem q99 : (Jvm.Cond.initialized "FogNets$Facts") ∈ lw_all := lw_g (lw_at lw_m1 7 rfl) rfl
theorem q269 : (Jvm.Cond.instantiable "FogNets$Facts" (1 : Nat)) ∈ lw_all := lw_g (lw_at lw_m1 177 rfl) rfl
theorem q271 : (Jvm.Cond.instanceMethod ({ cls := "FogNets$Facts", name := "<init>", desc := "()V" } : Jvm.MethodName)) ∈ lw_all := lw_g (lw_at lw_m1 179 rfl) rfl
theorem q272 : (Jvm.Cond.code ({ cls := "FogNets$Facts", name := "<init>", desc := "()V" } : Jvm.MethodName) prog_7_method_1_code (1 : Nat) (Option.none : Option Jvm.ClassFile.FieldType)) ∈ lw_all := lw_g (lw_at lw_m1 180 rfl) rfl
theorem q273 : (Jvm.Cond.methodLink "FogNets$Facts" (1 : Nat) ({ cls := "java/lang/Object", name := "<init>", desc := "()V" } : Jvm.MethodName)) ∈ lw_all := lw_g (lw_at lw_m1 181 rfl) rfl
theorem q274 : (Jvm.Cond.fieldLink "FogNets$Facts" (9 : Nat) "FogNets$Facts" "of" "[I") ∈ lw_all := lw_g (lw_at lw_m1 182 rfl) rfl
theorem q277 : (Jvm.Cond.laysFinal "FogNets$Facts" "FogNets$Facts" "of" "[I") ∈ lw_all := lw_g (lw_at lw_m1 185 rfl) rfl
theorem q278 : (Jvm.Cond.soleField "FogNets$Facts" "of") ∈ lw_all := lw_g (lw_at lw_m1 186 rfl) rfl
theorem q279 : (Jvm.Cond.superclass "FogNets$Facts" "java/lang/Object") ∈ lw_all := lw_g (lw_at lw_m1 187 rfl) rfl
theorem q865 : (Jvm.Cond.selects "FogNets$Facts" ({ cls := "java/lang/Object", name := "getClass", desc := "()Ljava/lang/Class;" } : Jvm.MethodName) ({ cls := "java/lang/Object", name := "getClass", desc := "()Ljava/lang/Class;" } : Jvm.MethodName)) ∈ lw_all := lw_g (lw_at lw_m4 53 rfl) rfl
theorem q2068 : (Jvm.Cond.castable "FogNets$Facts" "java/lang/Object") ∈ lw_tbl := lw_at lw_m9 56 rfl
theorem in_X4 : ∀ w ∈ wsX40, w ∈ lw_all := lw_in wsX40 [277] (by decide +kernel) (by decide +kernel)

/-! FogNets$Hung -/
set_option maxRecDepth 100000
def RX5 : String := "FogNets$Hung"
def TX5 : u_T := fun k => match k with
  | 0 => ("FogNets$Hung", "ridge", "LFogNets$Ridge;", false)
  | 1 => ("FogNets$Hung", "netAt", "[I", true)
  | 2 => ("FogNets$Hung", "nets", "[LFogNets$Net;", true)
  | 3 => ("FogNets$Hung", "at", "[I", true)
  | 4 => ("FogNets$Hung", "mended", "I", false)
  | 5 => ("FogNets$Hung", "many", "I", false)
  | _ => ("FogNets$Hung", "took", "[I", true)
def tyX5 : Nat → FieldType := fun k => match k with
  | 0 => .object "FogNets$Ridge"
  | 1 => .array .int
  | 2 => .array (.object "FogNets$Net")
  | 3 => .array .int
  | 4 => .int
  | 5 => .int
  | _ => .array .int
abbrev wsX50 : List Cond := u_ws RX5 TX5 7
theorem nmX5 : ∀ a, a < 7 → ∀ b, b < 7 → a ≠ b → (TX5 a).2.1 ≠ (TX5 b).2.1 := by decide +kernel
theorem tyX5_ok : ∀ k, k < 7 → parseFieldDescriptor (TX5 k).2.2.1 = some (tyX5 k) := by decide +kernel
abbrev cX5_init : ByteArray := prog_9_method_1_code
def yX5_init : MethodName := ⟨RX5, "<init>", "()V"⟩
def dkwX5_init_1 : List UInt8 := [188, 10, 181, 0, 21, 42, 16, 13, 188, 10, 181, 0, 24, 177]
abbrev dktX5_init_1 : List UInt8 := dkwX5_init_1 ++ []
def dkwX5_init_0 : List UInt8 := [42, 183, 0, 3, 42, 16, 64, 188, 10, 181, 0, 9, 42, 16, 13, 189, 0, 15, 181, 0, 17, 42, 16, 13]
abbrev dktX5_init_0 : List UInt8 := dkwX5_init_0 ++ dktX5_init_1
theorem dksX5_init_0 : cX5_init.data.toList.drop 0 = dktX5_init_0 := by decide +kernel
theorem dksX5_init_1 : cX5_init.data.toList.drop 24 = dktX5_init_1 := dk_seg dksX5_init_0 24 rfl rfl
theorem dX5_init_0 : decode cX5_init 0 = .ok (.aload_n 0, 1) := dk_42 (dk_at dksX5_init_0 0 rfl rfl)
theorem dX5_init_1 : decode cX5_init 1 = .ok (.invokespecial 3, 3) := dk_183 0 3 (dk_at dksX5_init_0 1 rfl rfl)
theorem dX5_init_4 : decode cX5_init 4 = .ok (.aload_n 0, 1) := dk_42 (dk_at dksX5_init_0 4 rfl rfl)
theorem dX5_init_5 : decode cX5_init 5 = .ok (.bipush 64, 2) := dk_16 64 (dk_at dksX5_init_0 5 rfl rfl)
theorem dX5_init_7 : decode cX5_init 7 = .ok (.newarray .int, 2) := dk_188_10 (dk_at dksX5_init_0 7 rfl rfl)
theorem dX5_init_9 : decode cX5_init 9 = .ok (.putfield 9, 3) := dk_181 0 9 (dk_at dksX5_init_0 9 rfl rfl)
theorem dX5_init_12 : decode cX5_init 12 = .ok (.aload_n 0, 1) := dk_42 (dk_at dksX5_init_0 12 rfl rfl)
theorem dX5_init_13 : decode cX5_init 13 = .ok (.bipush 13, 2) := dk_16 13 (dk_at dksX5_init_0 13 rfl rfl)
theorem dX5_init_15 : decode cX5_init 15 = .ok (.anewarray 15, 3) := dk_189 0 15 (dk_at dksX5_init_0 15 rfl rfl)
theorem dX5_init_18 : decode cX5_init 18 = .ok (.putfield 17, 3) := dk_181 0 17 (dk_at dksX5_init_0 18 rfl rfl)
theorem dX5_init_21 : decode cX5_init 21 = .ok (.aload_n 0, 1) := dk_42 (dk_at dksX5_init_0 21 rfl rfl)
theorem dX5_init_22 : decode cX5_init 22 = .ok (.bipush 13, 2) := dk_16 13 (dk_at dksX5_init_0 22 rfl rfl)
theorem dX5_init_24 : decode cX5_init 24 = .ok (.newarray .int, 2) := dk_188_10 (dk_at dksX5_init_1 0 rfl rfl)
theorem dX5_init_26 : decode cX5_init 26 = .ok (.putfield 21, 3) := dk_181 0 21 (dk_at dksX5_init_1 2 rfl rfl)
theorem dX5_init_29 : decode cX5_init 29 = .ok (.aload_n 0, 1) := dk_42 (dk_at dksX5_init_1 5 rfl rfl)
theorem dX5_init_30 : decode cX5_init 30 = .ok (.bipush 13, 2) := dk_16 13 (dk_at dksX5_init_1 6 rfl rfl)
theorem dX5_init_32 : decode cX5_init 32 = .ok (.newarray .int, 2) := dk_188_10 (dk_at dksX5_init_1 8 rfl rfl)
theorem dX5_init_34 : decode cX5_init 34 = .ok (.putfield 24, 3) := dk_181 0 24 (dk_at dksX5_init_1 10 rfl rfl)
theorem dX5_init_37 : decode cX5_init 37 = .ok (.return_, 1) := dk_177 (dk_at dksX5_init_1 13 rfl rfl)
abbrev cX5_begins : ByteArray := prog_9_method_2_code
def yX5_begins : MethodName := ⟨RX5, "begins", "(LFogNets$Ridge;)V"⟩
def dkwX5_begins_3 : List UInt8 := [132, 2, 1, 167, 255, 221, 177]
abbrev dktX5_begins_3 : List UInt8 := dkwX5_begins_3 ++ []
def dkwX5_begins_2 : List UInt8 := [162, 0, 30, 42, 43, 180, 0, 38, 28, 182, 0, 49, 192, 0, 15, 43, 180, 0, 53, 28, 46, 182, 0, 54]
abbrev dktX5_begins_2 : List UInt8 := dkwX5_begins_2 ++ dktX5_begins_3
def dkwX5_begins_1 : List UInt8 := [180, 0, 9, 28, 3, 79, 132, 2, 1, 167, 255, 240, 3, 61, 28, 43, 180, 0, 38, 182, 0, 43]
abbrev dktX5_begins_1 : List UInt8 := dkwX5_begins_1 ++ dktX5_begins_2
def dkwX5_begins_0 : List UInt8 := [42, 43, 181, 0, 27, 42, 3, 181, 0, 31, 42, 3, 181, 0, 35, 3, 61, 28, 16, 64, 162, 0, 16, 42]
abbrev dktX5_begins_0 : List UInt8 := dkwX5_begins_0 ++ dktX5_begins_1
theorem dksX5_begins_0 : cX5_begins.data.toList.drop 0 = dktX5_begins_0 := by decide +kernel
theorem dksX5_begins_1 : cX5_begins.data.toList.drop 24 = dktX5_begins_1 := dk_seg dksX5_begins_0 24 rfl rfl
theorem dksX5_begins_2 : cX5_begins.data.toList.drop 46 = dktX5_begins_2 := dk_seg dksX5_begins_1 22 rfl rfl
theorem dksX5_begins_3 : cX5_begins.data.toList.drop 70 = dktX5_begins_3 := dk_seg dksX5_begins_2 24 rfl rfl
theorem dX5_begins_0 : decode cX5_begins 0 = .ok (.aload_n 0, 1) := dk_42 (dk_at dksX5_begins_0 0 rfl rfl)
theorem dX5_begins_1 : decode cX5_begins 1 = .ok (.aload_n 1, 1) := dk_43 (dk_at dksX5_begins_0 1 rfl rfl)
theorem dX5_begins_2 : decode cX5_begins 2 = .ok (.putfield 27, 3) := dk_181 0 27 (dk_at dksX5_begins_0 2 rfl rfl)
theorem dX5_begins_5 : decode cX5_begins 5 = .ok (.aload_n 0, 1) := dk_42 (dk_at dksX5_begins_0 5 rfl rfl)
theorem dX5_begins_6 : decode cX5_begins 6 = .ok (.iconst 0, 1) := dk_3 (dk_at dksX5_begins_0 6 rfl rfl)
theorem dX5_begins_7 : decode cX5_begins 7 = .ok (.putfield 31, 3) := dk_181 0 31 (dk_at dksX5_begins_0 7 rfl rfl)
theorem dX5_begins_10 : decode cX5_begins 10 = .ok (.aload_n 0, 1) := dk_42 (dk_at dksX5_begins_0 10 rfl rfl)
theorem dX5_begins_11 : decode cX5_begins 11 = .ok (.iconst 0, 1) := dk_3 (dk_at dksX5_begins_0 11 rfl rfl)
theorem dX5_begins_12 : decode cX5_begins 12 = .ok (.putfield 35, 3) := dk_181 0 35 (dk_at dksX5_begins_0 12 rfl rfl)
theorem dX5_begins_15 : decode cX5_begins 15 = .ok (.iconst 0, 1) := dk_3 (dk_at dksX5_begins_0 15 rfl rfl)
theorem dX5_begins_16 : decode cX5_begins 16 = .ok (.istore_n 2, 1) := dk_61 (dk_at dksX5_begins_0 16 rfl rfl)
theorem dX5_begins_17 : decode cX5_begins 17 = .ok (.iload_n 2, 1) := dk_28 (dk_at dksX5_begins_0 17 rfl rfl)
theorem dX5_begins_18 : decode cX5_begins 18 = .ok (.bipush 64, 2) := dk_16 64 (dk_at dksX5_begins_0 18 rfl rfl)
theorem dX5_begins_20 : decode cX5_begins 20 = .ok (.if_icmp .ge 16, 3) := dk_162 0 16 (dk_at dksX5_begins_0 20 rfl rfl)
theorem dX5_begins_23 : decode cX5_begins 23 = .ok (.aload_n 0, 1) := dk_42 (dk_at dksX5_begins_0 23 rfl rfl)
theorem dX5_begins_24 : decode cX5_begins 24 = .ok (.getfield 9, 3) := dk_180 0 9 (dk_at dksX5_begins_1 0 rfl rfl)
theorem dX5_begins_27 : decode cX5_begins 27 = .ok (.iload_n 2, 1) := dk_28 (dk_at dksX5_begins_1 3 rfl rfl)
theorem dX5_begins_28 : decode cX5_begins 28 = .ok (.iconst 0, 1) := dk_3 (dk_at dksX5_begins_1 4 rfl rfl)
theorem dX5_begins_29 : decode cX5_begins 29 = .ok (.iastore, 1) := dk_79 (dk_at dksX5_begins_1 5 rfl rfl)
theorem dX5_begins_30 : decode cX5_begins 30 = .ok (.iinc 2 1, 3) := dk_132 2 1 (dk_at dksX5_begins_1 6 rfl rfl)
theorem dX5_begins_33 : decode cX5_begins 33 = .ok (.goto (-16), 3) := dk_167 255 240 (dk_at dksX5_begins_1 9 rfl rfl)
theorem dX5_begins_36 : decode cX5_begins 36 = .ok (.iconst 0, 1) := dk_3 (dk_at dksX5_begins_1 12 rfl rfl)
theorem dX5_begins_37 : decode cX5_begins 37 = .ok (.istore_n 2, 1) := dk_61 (dk_at dksX5_begins_1 13 rfl rfl)
theorem dX5_begins_38 : decode cX5_begins 38 = .ok (.iload_n 2, 1) := dk_28 (dk_at dksX5_begins_1 14 rfl rfl)
theorem dX5_begins_39 : decode cX5_begins 39 = .ok (.aload_n 1, 1) := dk_43 (dk_at dksX5_begins_1 15 rfl rfl)
theorem dX5_begins_40 : decode cX5_begins 40 = .ok (.getfield 38, 3) := dk_180 0 38 (dk_at dksX5_begins_1 16 rfl rfl)
theorem dX5_begins_43 : decode cX5_begins 43 = .ok (.invokevirtual 43, 3) := dk_182 0 43 (dk_at dksX5_begins_1 19 rfl rfl)
theorem dX5_begins_46 : decode cX5_begins 46 = .ok (.if_icmp .ge 30, 3) := dk_162 0 30 (dk_at dksX5_begins_2 0 rfl rfl)
theorem dX5_begins_49 : decode cX5_begins 49 = .ok (.aload_n 0, 1) := dk_42 (dk_at dksX5_begins_2 3 rfl rfl)
theorem dX5_begins_50 : decode cX5_begins 50 = .ok (.aload_n 1, 1) := dk_43 (dk_at dksX5_begins_2 4 rfl rfl)
theorem dX5_begins_51 : decode cX5_begins 51 = .ok (.getfield 38, 3) := dk_180 0 38 (dk_at dksX5_begins_2 5 rfl rfl)
theorem dX5_begins_54 : decode cX5_begins 54 = .ok (.iload_n 2, 1) := dk_28 (dk_at dksX5_begins_2 8 rfl rfl)
theorem dX5_begins_55 : decode cX5_begins 55 = .ok (.invokevirtual 49, 3) := dk_182 0 49 (dk_at dksX5_begins_2 9 rfl rfl)
theorem dX5_begins_58 : decode cX5_begins 58 = .ok (.checkcast 15, 3) := dk_192 0 15 (dk_at dksX5_begins_2 12 rfl rfl)
theorem dX5_begins_61 : decode cX5_begins 61 = .ok (.aload_n 1, 1) := dk_43 (dk_at dksX5_begins_2 15 rfl rfl)
theorem dX5_begins_62 : decode cX5_begins 62 = .ok (.getfield 53, 3) := dk_180 0 53 (dk_at dksX5_begins_2 16 rfl rfl)
theorem dX5_begins_65 : decode cX5_begins 65 = .ok (.iload_n 2, 1) := dk_28 (dk_at dksX5_begins_2 19 rfl rfl)
theorem dX5_begins_66 : decode cX5_begins 66 = .ok (.iaload, 1) := dk_46 (dk_at dksX5_begins_2 20 rfl rfl)
theorem dX5_begins_67 : decode cX5_begins 67 = .ok (.invokevirtual 54, 3) := dk_182 0 54 (dk_at dksX5_begins_2 21 rfl rfl)
theorem dX5_begins_70 : decode cX5_begins 70 = .ok (.iinc 2 1, 3) := dk_132 2 1 (dk_at dksX5_begins_3 0 rfl rfl)
theorem dX5_begins_73 : decode cX5_begins 73 = .ok (.goto (-35), 3) := dk_167 255 221 (dk_at dksX5_begins_3 3 rfl rfl)
theorem dX5_begins_76 : decode cX5_begins 76 = .ok (.return_, 1) := dk_177 (dk_at dksX5_begins_3 6 rfl rfl)
abbrev cX5_hangs : ByteArray := prog_9_method_3_code
def yX5_hangs : MethodName := ⟨RX5, "hangs", "(LFogNets$Net;I)V"⟩
def dkwX5_hangs_1 : List UInt8 := [180, 0, 35, 4, 96, 181, 0, 35, 42, 180, 0, 9, 28, 42, 180, 0, 35, 79, 177]
abbrev dktX5_hangs_1 : List UInt8 := dkwX5_hangs_1 ++ []
def dkwX5_hangs_0 : List UInt8 := [42, 180, 0, 17, 42, 180, 0, 35, 43, 83, 42, 180, 0, 21, 42, 180, 0, 35, 28, 79, 42, 89]
abbrev dktX5_hangs_0 : List UInt8 := dkwX5_hangs_0 ++ dktX5_hangs_1
theorem dksX5_hangs_0 : cX5_hangs.data.toList.drop 0 = dktX5_hangs_0 := by decide +kernel
theorem dksX5_hangs_1 : cX5_hangs.data.toList.drop 22 = dktX5_hangs_1 := dk_seg dksX5_hangs_0 22 rfl rfl
theorem dX5_hangs_0 : decode cX5_hangs 0 = .ok (.aload_n 0, 1) := dk_42 (dk_at dksX5_hangs_0 0 rfl rfl)
theorem dX5_hangs_1 : decode cX5_hangs 1 = .ok (.getfield 17, 3) := dk_180 0 17 (dk_at dksX5_hangs_0 1 rfl rfl)
theorem dX5_hangs_4 : decode cX5_hangs 4 = .ok (.aload_n 0, 1) := dk_42 (dk_at dksX5_hangs_0 4 rfl rfl)
theorem dX5_hangs_5 : decode cX5_hangs 5 = .ok (.getfield 35, 3) := dk_180 0 35 (dk_at dksX5_hangs_0 5 rfl rfl)
theorem dX5_hangs_8 : decode cX5_hangs 8 = .ok (.aload_n 1, 1) := dk_43 (dk_at dksX5_hangs_0 8 rfl rfl)
theorem dX5_hangs_9 : decode cX5_hangs 9 = .ok (.aastore, 1) := dk_83 (dk_at dksX5_hangs_0 9 rfl rfl)
theorem dX5_hangs_10 : decode cX5_hangs 10 = .ok (.aload_n 0, 1) := dk_42 (dk_at dksX5_hangs_0 10 rfl rfl)
theorem dX5_hangs_11 : decode cX5_hangs 11 = .ok (.getfield 21, 3) := dk_180 0 21 (dk_at dksX5_hangs_0 11 rfl rfl)
theorem dX5_hangs_14 : decode cX5_hangs 14 = .ok (.aload_n 0, 1) := dk_42 (dk_at dksX5_hangs_0 14 rfl rfl)
theorem dX5_hangs_15 : decode cX5_hangs 15 = .ok (.getfield 35, 3) := dk_180 0 35 (dk_at dksX5_hangs_0 15 rfl rfl)
theorem dX5_hangs_18 : decode cX5_hangs 18 = .ok (.iload_n 2, 1) := dk_28 (dk_at dksX5_hangs_0 18 rfl rfl)
theorem dX5_hangs_19 : decode cX5_hangs 19 = .ok (.iastore, 1) := dk_79 (dk_at dksX5_hangs_0 19 rfl rfl)
theorem dX5_hangs_20 : decode cX5_hangs 20 = .ok (.aload_n 0, 1) := dk_42 (dk_at dksX5_hangs_0 20 rfl rfl)
theorem dX5_hangs_21 : decode cX5_hangs 21 = .ok (.dup, 1) := dk_89 (dk_at dksX5_hangs_0 21 rfl rfl)
theorem dX5_hangs_22 : decode cX5_hangs 22 = .ok (.getfield 35, 3) := dk_180 0 35 (dk_at dksX5_hangs_1 0 rfl rfl)
theorem dX5_hangs_25 : decode cX5_hangs 25 = .ok (.iconst 1, 1) := dk_4 (dk_at dksX5_hangs_1 3 rfl rfl)
theorem dX5_hangs_26 : decode cX5_hangs 26 = .ok (.iadd, 1) := dk_96 (dk_at dksX5_hangs_1 4 rfl rfl)
theorem dX5_hangs_27 : decode cX5_hangs 27 = .ok (.putfield 35, 3) := dk_181 0 35 (dk_at dksX5_hangs_1 5 rfl rfl)
theorem dX5_hangs_30 : decode cX5_hangs 30 = .ok (.aload_n 0, 1) := dk_42 (dk_at dksX5_hangs_1 8 rfl rfl)
theorem dX5_hangs_31 : decode cX5_hangs 31 = .ok (.getfield 9, 3) := dk_180 0 9 (dk_at dksX5_hangs_1 9 rfl rfl)
theorem dX5_hangs_34 : decode cX5_hangs 34 = .ok (.iload_n 2, 1) := dk_28 (dk_at dksX5_hangs_1 12 rfl rfl)
theorem dX5_hangs_35 : decode cX5_hangs 35 = .ok (.aload_n 0, 1) := dk_42 (dk_at dksX5_hangs_1 13 rfl rfl)
theorem dX5_hangs_36 : decode cX5_hangs 36 = .ok (.getfield 35, 3) := dk_180 0 35 (dk_at dksX5_hangs_1 14 rfl rfl)
theorem dX5_hangs_39 : decode cX5_hangs 39 = .ok (.iastore, 1) := dk_79 (dk_at dksX5_hangs_1 17 rfl rfl)
theorem dX5_hangs_40 : decode cX5_hangs 40 = .ok (.return_, 1) := dk_177 (dk_at dksX5_hangs_1 18 rfl rfl)
abbrev cX5_isMended : ByteArray := prog_9_method_7_code
def yX5_isMended : MethodName := ⟨RX5, "isMended", "(I)Z"⟩
def dkwX5_isMended_0 : List UInt8 := [42, 180, 0, 31, 27, 122, 4, 126, 4, 160, 0, 7, 4, 167, 0, 4, 3, 172]
abbrev dktX5_isMended_0 : List UInt8 := dkwX5_isMended_0 ++ []
theorem dksX5_isMended_0 : cX5_isMended.data.toList.drop 0 = dktX5_isMended_0 := by decide +kernel
theorem dX5_isMended_0 : decode cX5_isMended 0 = .ok (.aload_n 0, 1) := dk_42 (dk_at dksX5_isMended_0 0 rfl rfl)
theorem dX5_isMended_1 : decode cX5_isMended 1 = .ok (.getfield 31, 3) := dk_180 0 31 (dk_at dksX5_isMended_0 1 rfl rfl)
theorem dX5_isMended_4 : decode cX5_isMended 4 = .ok (.iload_n 1, 1) := dk_27 (dk_at dksX5_isMended_0 4 rfl rfl)
theorem dX5_isMended_5 : decode cX5_isMended 5 = .ok (.ishr, 1) := dk_122 (dk_at dksX5_isMended_0 5 rfl rfl)
theorem dX5_isMended_6 : decode cX5_isMended 6 = .ok (.iconst 1, 1) := dk_4 (dk_at dksX5_isMended_0 6 rfl rfl)
theorem dX5_isMended_7 : decode cX5_isMended 7 = .ok (.iand, 1) := dk_126 (dk_at dksX5_isMended_0 7 rfl rfl)
theorem dX5_isMended_8 : decode cX5_isMended 8 = .ok (.iconst 1, 1) := dk_4 (dk_at dksX5_isMended_0 8 rfl rfl)
theorem dX5_isMended_9 : decode cX5_isMended 9 = .ok (.if_icmp .ne 7, 3) := dk_160 0 7 (dk_at dksX5_isMended_0 9 rfl rfl)
theorem dX5_isMended_12 : decode cX5_isMended 12 = .ok (.iconst 1, 1) := dk_4 (dk_at dksX5_isMended_0 12 rfl rfl)
theorem dX5_isMended_13 : decode cX5_isMended 13 = .ok (.goto 4, 3) := dk_167 0 4 (dk_at dksX5_isMended_0 13 rfl rfl)
theorem dX5_isMended_16 : decode cX5_isMended 16 = .ok (.iconst 0, 1) := dk_3 (dk_at dksX5_isMended_0 16 rfl rfl)
theorem dX5_isMended_17 : decode cX5_isMended 17 = .ok (.ireturn, 1) := dk_172 (dk_at dksX5_isMended_0 17 rfl rfl)
abbrev cX5_copies : ByteArray := prog_9_method_5_code
def yX5_copies : MethodName := ⟨RX5, "copies", "(LFogNets$Hung;)LFogNets$Hung;"⟩
def dkwX5_copies_3 : List UInt8 := [184, 0, 58, 42, 176]
abbrev dktX5_copies_3 : List UInt8 := dkwX5_copies_3 ++ []
def dkwX5_copies_2 : List UInt8 := [3, 42, 180, 0, 35, 184, 0, 58, 43, 180, 0, 21, 3, 42, 180, 0, 21, 3, 42, 180, 0, 35]
abbrev dktX5_copies_2 : List UInt8 := dkwX5_copies_2 ++ dktX5_copies_3
def dkwX5_copies_1 : List UInt8 := [43, 180, 0, 9, 3, 42, 180, 0, 9, 3, 16, 64, 184, 0, 58, 43, 180, 0, 17, 3, 42, 180, 0, 17]
abbrev dktX5_copies_1 : List UInt8 := dkwX5_copies_1 ++ dktX5_copies_2
def dkwX5_copies_0 : List UInt8 := [42, 43, 180, 0, 27, 181, 0, 27, 42, 43, 180, 0, 31, 181, 0, 31, 42, 43, 180, 0, 35, 181, 0, 35]
abbrev dktX5_copies_0 : List UInt8 := dkwX5_copies_0 ++ dktX5_copies_1
theorem dksX5_copies_0 : cX5_copies.data.toList.drop 0 = dktX5_copies_0 := by decide +kernel
theorem dksX5_copies_1 : cX5_copies.data.toList.drop 24 = dktX5_copies_1 := dk_seg dksX5_copies_0 24 rfl rfl
theorem dksX5_copies_2 : cX5_copies.data.toList.drop 48 = dktX5_copies_2 := dk_seg dksX5_copies_1 24 rfl rfl
theorem dksX5_copies_3 : cX5_copies.data.toList.drop 70 = dktX5_copies_3 := dk_seg dksX5_copies_2 22 rfl rfl
theorem dX5_copies_0 : decode cX5_copies 0 = .ok (.aload_n 0, 1) := dk_42 (dk_at dksX5_copies_0 0 rfl rfl)
theorem dX5_copies_1 : decode cX5_copies 1 = .ok (.aload_n 1, 1) := dk_43 (dk_at dksX5_copies_0 1 rfl rfl)
theorem dX5_copies_2 : decode cX5_copies 2 = .ok (.getfield 27, 3) := dk_180 0 27 (dk_at dksX5_copies_0 2 rfl rfl)
theorem dX5_copies_5 : decode cX5_copies 5 = .ok (.putfield 27, 3) := dk_181 0 27 (dk_at dksX5_copies_0 5 rfl rfl)
theorem dX5_copies_8 : decode cX5_copies 8 = .ok (.aload_n 0, 1) := dk_42 (dk_at dksX5_copies_0 8 rfl rfl)
theorem dX5_copies_9 : decode cX5_copies 9 = .ok (.aload_n 1, 1) := dk_43 (dk_at dksX5_copies_0 9 rfl rfl)
theorem dX5_copies_10 : decode cX5_copies 10 = .ok (.getfield 31, 3) := dk_180 0 31 (dk_at dksX5_copies_0 10 rfl rfl)
theorem dX5_copies_13 : decode cX5_copies 13 = .ok (.putfield 31, 3) := dk_181 0 31 (dk_at dksX5_copies_0 13 rfl rfl)
theorem dX5_copies_16 : decode cX5_copies 16 = .ok (.aload_n 0, 1) := dk_42 (dk_at dksX5_copies_0 16 rfl rfl)
theorem dX5_copies_17 : decode cX5_copies 17 = .ok (.aload_n 1, 1) := dk_43 (dk_at dksX5_copies_0 17 rfl rfl)
theorem dX5_copies_18 : decode cX5_copies 18 = .ok (.getfield 35, 3) := dk_180 0 35 (dk_at dksX5_copies_0 18 rfl rfl)
theorem dX5_copies_21 : decode cX5_copies 21 = .ok (.putfield 35, 3) := dk_181 0 35 (dk_at dksX5_copies_0 21 rfl rfl)
theorem dX5_copies_24 : decode cX5_copies 24 = .ok (.aload_n 1, 1) := dk_43 (dk_at dksX5_copies_1 0 rfl rfl)
theorem dX5_copies_25 : decode cX5_copies 25 = .ok (.getfield 9, 3) := dk_180 0 9 (dk_at dksX5_copies_1 1 rfl rfl)
theorem dX5_copies_28 : decode cX5_copies 28 = .ok (.iconst 0, 1) := dk_3 (dk_at dksX5_copies_1 4 rfl rfl)
theorem dX5_copies_29 : decode cX5_copies 29 = .ok (.aload_n 0, 1) := dk_42 (dk_at dksX5_copies_1 5 rfl rfl)
theorem dX5_copies_30 : decode cX5_copies 30 = .ok (.getfield 9, 3) := dk_180 0 9 (dk_at dksX5_copies_1 6 rfl rfl)
theorem dX5_copies_33 : decode cX5_copies 33 = .ok (.iconst 0, 1) := dk_3 (dk_at dksX5_copies_1 9 rfl rfl)
theorem dX5_copies_34 : decode cX5_copies 34 = .ok (.bipush 64, 2) := dk_16 64 (dk_at dksX5_copies_1 10 rfl rfl)
theorem dX5_copies_36 : decode cX5_copies 36 = .ok (.invokestatic 58, 3) := dk_184 0 58 (dk_at dksX5_copies_1 12 rfl rfl)
theorem dX5_copies_39 : decode cX5_copies 39 = .ok (.aload_n 1, 1) := dk_43 (dk_at dksX5_copies_1 15 rfl rfl)
theorem dX5_copies_40 : decode cX5_copies 40 = .ok (.getfield 17, 3) := dk_180 0 17 (dk_at dksX5_copies_1 16 rfl rfl)
theorem dX5_copies_43 : decode cX5_copies 43 = .ok (.iconst 0, 1) := dk_3 (dk_at dksX5_copies_1 19 rfl rfl)
theorem dX5_copies_44 : decode cX5_copies 44 = .ok (.aload_n 0, 1) := dk_42 (dk_at dksX5_copies_1 20 rfl rfl)
theorem dX5_copies_45 : decode cX5_copies 45 = .ok (.getfield 17, 3) := dk_180 0 17 (dk_at dksX5_copies_1 21 rfl rfl)
theorem dX5_copies_48 : decode cX5_copies 48 = .ok (.iconst 0, 1) := dk_3 (dk_at dksX5_copies_2 0 rfl rfl)
theorem dX5_copies_49 : decode cX5_copies 49 = .ok (.aload_n 0, 1) := dk_42 (dk_at dksX5_copies_2 1 rfl rfl)
theorem dX5_copies_50 : decode cX5_copies 50 = .ok (.getfield 35, 3) := dk_180 0 35 (dk_at dksX5_copies_2 2 rfl rfl)
theorem dX5_copies_53 : decode cX5_copies 53 = .ok (.invokestatic 58, 3) := dk_184 0 58 (dk_at dksX5_copies_2 5 rfl rfl)
theorem dX5_copies_56 : decode cX5_copies 56 = .ok (.aload_n 1, 1) := dk_43 (dk_at dksX5_copies_2 8 rfl rfl)
theorem dX5_copies_57 : decode cX5_copies 57 = .ok (.getfield 21, 3) := dk_180 0 21 (dk_at dksX5_copies_2 9 rfl rfl)
theorem dX5_copies_60 : decode cX5_copies 60 = .ok (.iconst 0, 1) := dk_3 (dk_at dksX5_copies_2 12 rfl rfl)
theorem dX5_copies_61 : decode cX5_copies 61 = .ok (.aload_n 0, 1) := dk_42 (dk_at dksX5_copies_2 13 rfl rfl)
theorem dX5_copies_62 : decode cX5_copies 62 = .ok (.getfield 21, 3) := dk_180 0 21 (dk_at dksX5_copies_2 14 rfl rfl)
theorem dX5_copies_65 : decode cX5_copies 65 = .ok (.iconst 0, 1) := dk_3 (dk_at dksX5_copies_2 17 rfl rfl)
theorem dX5_copies_66 : decode cX5_copies 66 = .ok (.aload_n 0, 1) := dk_42 (dk_at dksX5_copies_2 18 rfl rfl)
theorem dX5_copies_67 : decode cX5_copies 67 = .ok (.getfield 35, 3) := dk_180 0 35 (dk_at dksX5_copies_2 19 rfl rfl)
theorem dX5_copies_70 : decode cX5_copies 70 = .ok (.invokestatic 58, 3) := dk_184 0 58 (dk_at dksX5_copies_3 0 rfl rfl)
theorem dX5_copies_73 : decode cX5_copies 73 = .ok (.aload_n 0, 1) := dk_42 (dk_at dksX5_copies_3 3 rfl rfl)
theorem dX5_copies_74 : decode cX5_copies 74 = .ok (.areturn, 1) := dk_176 (dk_at dksX5_copies_3 4 rfl rfl)
abbrev cX5_blows : ByteArray := prog_9_method_10_code
def yX5_blows : MethodName := ⟨RX5, "blows", "(IIII)I"⟩
def dkwX5_blows_4 : List UInt8 := [21, 5, 172]
abbrev dktX5_blows_4 : List UInt8 := dkwX5_blows_4 ++ []
def dkwX5_blows_3 : List UInt8 := [180, 0, 24, 21, 7, 92, 46, 21, 8, 96, 79, 21, 5, 21, 8, 100, 54, 5, 132, 6, 1, 167, 255, 171]
abbrev dktX5_blows_3 : List UInt8 := dkwX5_blows_3 ++ dktX5_blows_4
def dkwX5_blows_2 : List UInt8 := [180, 0, 17, 21, 7, 50, 21, 5, 21, 4, 42, 21, 7, 182, 0, 79, 182, 0, 82, 54, 8, 42]
abbrev dktX5_blows_2 : List UInt8 := dkwX5_blows_2 ++ dktX5_blows_3
def dkwX5_blows_1 : List UInt8 := [180, 0, 27, 27, 28, 21, 6, 182, 0, 75, 46, 4, 100, 54, 7, 21, 7, 156, 0, 6, 167, 0, 44, 42]
abbrev dktX5_blows_1 : List UInt8 := dkwX5_blows_1 ++ dktX5_blows_2
def dkwX5_blows_0 : List UInt8 := [29, 54, 5, 3, 54, 6, 21, 6, 42, 180, 0, 27, 27, 182, 0, 71, 162, 0, 78, 42, 180, 0, 9, 42]
abbrev dktX5_blows_0 : List UInt8 := dkwX5_blows_0 ++ dktX5_blows_1
theorem dksX5_blows_0 : cX5_blows.data.toList.drop 0 = dktX5_blows_0 := by decide +kernel
theorem dksX5_blows_1 : cX5_blows.data.toList.drop 24 = dktX5_blows_1 := dk_seg dksX5_blows_0 24 rfl rfl
theorem dksX5_blows_2 : cX5_blows.data.toList.drop 48 = dktX5_blows_2 := dk_seg dksX5_blows_1 24 rfl rfl
theorem dksX5_blows_3 : cX5_blows.data.toList.drop 70 = dktX5_blows_3 := dk_seg dksX5_blows_2 22 rfl rfl
theorem dksX5_blows_4 : cX5_blows.data.toList.drop 94 = dktX5_blows_4 := dk_seg dksX5_blows_3 24 rfl rfl
theorem dX5_blows_0 : decode cX5_blows 0 = .ok (.iload_n 3, 1) := dk_29 (dk_at dksX5_blows_0 0 rfl rfl)
theorem dX5_blows_1 : decode cX5_blows 1 = .ok (.istore 5, 2) := dk_54 5 (dk_at dksX5_blows_0 1 rfl rfl)
theorem dX5_blows_3 : decode cX5_blows 3 = .ok (.iconst 0, 1) := dk_3 (dk_at dksX5_blows_0 3 rfl rfl)
theorem dX5_blows_4 : decode cX5_blows 4 = .ok (.istore 6, 2) := dk_54 6 (dk_at dksX5_blows_0 4 rfl rfl)
theorem dX5_blows_6 : decode cX5_blows 6 = .ok (.iload 6, 2) := dk_21 6 (dk_at dksX5_blows_0 6 rfl rfl)
theorem dX5_blows_8 : decode cX5_blows 8 = .ok (.aload_n 0, 1) := dk_42 (dk_at dksX5_blows_0 8 rfl rfl)
theorem dX5_blows_9 : decode cX5_blows 9 = .ok (.getfield 27, 3) := dk_180 0 27 (dk_at dksX5_blows_0 9 rfl rfl)
theorem dX5_blows_12 : decode cX5_blows 12 = .ok (.iload_n 1, 1) := dk_27 (dk_at dksX5_blows_0 12 rfl rfl)
theorem dX5_blows_13 : decode cX5_blows 13 = .ok (.invokevirtual 71, 3) := dk_182 0 71 (dk_at dksX5_blows_0 13 rfl rfl)
theorem dX5_blows_16 : decode cX5_blows 16 = .ok (.if_icmp .ge 78, 3) := dk_162 0 78 (dk_at dksX5_blows_0 16 rfl rfl)
theorem dX5_blows_19 : decode cX5_blows 19 = .ok (.aload_n 0, 1) := dk_42 (dk_at dksX5_blows_0 19 rfl rfl)
theorem dX5_blows_20 : decode cX5_blows 20 = .ok (.getfield 9, 3) := dk_180 0 9 (dk_at dksX5_blows_0 20 rfl rfl)
theorem dX5_blows_23 : decode cX5_blows 23 = .ok (.aload_n 0, 1) := dk_42 (dk_at dksX5_blows_0 23 rfl rfl)
theorem dX5_blows_24 : decode cX5_blows 24 = .ok (.getfield 27, 3) := dk_180 0 27 (dk_at dksX5_blows_1 0 rfl rfl)
theorem dX5_blows_27 : decode cX5_blows 27 = .ok (.iload_n 1, 1) := dk_27 (dk_at dksX5_blows_1 3 rfl rfl)
theorem dX5_blows_28 : decode cX5_blows 28 = .ok (.iload_n 2, 1) := dk_28 (dk_at dksX5_blows_1 4 rfl rfl)
theorem dX5_blows_29 : decode cX5_blows 29 = .ok (.iload 6, 2) := dk_21 6 (dk_at dksX5_blows_1 5 rfl rfl)
theorem dX5_blows_31 : decode cX5_blows 31 = .ok (.invokevirtual 75, 3) := dk_182 0 75 (dk_at dksX5_blows_1 7 rfl rfl)
theorem dX5_blows_34 : decode cX5_blows 34 = .ok (.iaload, 1) := dk_46 (dk_at dksX5_blows_1 10 rfl rfl)
theorem dX5_blows_35 : decode cX5_blows 35 = .ok (.iconst 1, 1) := dk_4 (dk_at dksX5_blows_1 11 rfl rfl)
theorem dX5_blows_36 : decode cX5_blows 36 = .ok (.isub, 1) := dk_100 (dk_at dksX5_blows_1 12 rfl rfl)
theorem dX5_blows_37 : decode cX5_blows 37 = .ok (.istore 7, 2) := dk_54 7 (dk_at dksX5_blows_1 13 rfl rfl)
theorem dX5_blows_39 : decode cX5_blows 39 = .ok (.iload 7, 2) := dk_21 7 (dk_at dksX5_blows_1 15 rfl rfl)
theorem dX5_blows_41 : decode cX5_blows 41 = .ok (.ifCond .ge 6, 3) := dk_156 0 6 (dk_at dksX5_blows_1 17 rfl rfl)
theorem dX5_blows_44 : decode cX5_blows 44 = .ok (.goto 44, 3) := dk_167 0 44 (dk_at dksX5_blows_1 20 rfl rfl)
theorem dX5_blows_47 : decode cX5_blows 47 = .ok (.aload_n 0, 1) := dk_42 (dk_at dksX5_blows_1 23 rfl rfl)
theorem dX5_blows_48 : decode cX5_blows 48 = .ok (.getfield 17, 3) := dk_180 0 17 (dk_at dksX5_blows_2 0 rfl rfl)
theorem dX5_blows_51 : decode cX5_blows 51 = .ok (.iload 7, 2) := dk_21 7 (dk_at dksX5_blows_2 3 rfl rfl)
theorem dX5_blows_53 : decode cX5_blows 53 = .ok (.aaload, 1) := dk_50 (dk_at dksX5_blows_2 5 rfl rfl)
theorem dX5_blows_54 : decode cX5_blows 54 = .ok (.iload 5, 2) := dk_21 5 (dk_at dksX5_blows_2 6 rfl rfl)
theorem dX5_blows_56 : decode cX5_blows 56 = .ok (.iload 4, 2) := dk_21 4 (dk_at dksX5_blows_2 8 rfl rfl)
theorem dX5_blows_58 : decode cX5_blows 58 = .ok (.aload_n 0, 1) := dk_42 (dk_at dksX5_blows_2 10 rfl rfl)
theorem dX5_blows_59 : decode cX5_blows 59 = .ok (.iload 7, 2) := dk_21 7 (dk_at dksX5_blows_2 11 rfl rfl)
theorem dX5_blows_61 : decode cX5_blows 61 = .ok (.invokevirtual 79, 3) := dk_182 0 79 (dk_at dksX5_blows_2 13 rfl rfl)
theorem dX5_blows_64 : decode cX5_blows 64 = .ok (.invokevirtual 82, 3) := dk_182 0 82 (dk_at dksX5_blows_2 16 rfl rfl)
theorem dX5_blows_67 : decode cX5_blows 67 = .ok (.istore 8, 2) := dk_54 8 (dk_at dksX5_blows_2 19 rfl rfl)
theorem dX5_blows_69 : decode cX5_blows 69 = .ok (.aload_n 0, 1) := dk_42 (dk_at dksX5_blows_2 21 rfl rfl)
theorem dX5_blows_70 : decode cX5_blows 70 = .ok (.getfield 24, 3) := dk_180 0 24 (dk_at dksX5_blows_3 0 rfl rfl)
theorem dX5_blows_73 : decode cX5_blows 73 = .ok (.iload 7, 2) := dk_21 7 (dk_at dksX5_blows_3 3 rfl rfl)
theorem dX5_blows_75 : decode cX5_blows 75 = .ok (.dup2, 1) := dk_92 (dk_at dksX5_blows_3 5 rfl rfl)
theorem dX5_blows_76 : decode cX5_blows 76 = .ok (.iaload, 1) := dk_46 (dk_at dksX5_blows_3 6 rfl rfl)
theorem dX5_blows_77 : decode cX5_blows 77 = .ok (.iload 8, 2) := dk_21 8 (dk_at dksX5_blows_3 7 rfl rfl)
theorem dX5_blows_79 : decode cX5_blows 79 = .ok (.iadd, 1) := dk_96 (dk_at dksX5_blows_3 9 rfl rfl)
theorem dX5_blows_80 : decode cX5_blows 80 = .ok (.iastore, 1) := dk_79 (dk_at dksX5_blows_3 10 rfl rfl)
theorem dX5_blows_81 : decode cX5_blows 81 = .ok (.iload 5, 2) := dk_21 5 (dk_at dksX5_blows_3 11 rfl rfl)
theorem dX5_blows_83 : decode cX5_blows 83 = .ok (.iload 8, 2) := dk_21 8 (dk_at dksX5_blows_3 13 rfl rfl)
theorem dX5_blows_85 : decode cX5_blows 85 = .ok (.isub, 1) := dk_100 (dk_at dksX5_blows_3 15 rfl rfl)
theorem dX5_blows_86 : decode cX5_blows 86 = .ok (.istore 5, 2) := dk_54 5 (dk_at dksX5_blows_3 16 rfl rfl)
theorem dX5_blows_88 : decode cX5_blows 88 = .ok (.iinc 6 1, 3) := dk_132 6 1 (dk_at dksX5_blows_3 18 rfl rfl)
theorem dX5_blows_91 : decode cX5_blows 91 = .ok (.goto (-85), 3) := dk_167 255 171 (dk_at dksX5_blows_3 21 rfl rfl)
theorem dX5_blows_94 : decode cX5_blows 94 = .ok (.iload 5, 2) := dk_21 5 (dk_at dksX5_blows_4 0 rfl rfl)
theorem dX5_blows_96 : decode cX5_blows 96 = .ok (.ireturn, 1) := dk_172 (dk_at dksX5_blows_4 2 rfl rfl)
abbrev cX5_takes : ByteArray := prog_9_method_11_code
def yX5_takes : MethodName := ⟨RX5, "takes", "(LFogNets$Sky;)LFogNets$Hung;"⟩
def dkwX5_takes_3 : List UInt8 := [96, 46, 28, 182, 0, 100, 87, 132, 3, 1, 167, 255, 212, 132, 2, 1, 167, 255, 193, 42, 176]
abbrev dktX5_takes_3 : List UInt8 := dkwX5_takes_3 ++ []
def dkwX5_takes_2 : List UInt8 := [46, 182, 0, 94, 162, 0, 33, 42, 43, 180, 0, 89, 28, 46, 29, 43, 180, 0, 97, 16, 8, 28, 104, 29]
abbrev dktX5_takes_2 : List UInt8 := dkwX5_takes_2 ++ dktX5_takes_3
def dkwX5_takes_1 : List UInt8 := [61, 28, 42, 180, 0, 27, 180, 0, 86, 162, 0, 58, 3, 62, 29, 42, 180, 0, 27, 43, 180, 0, 89, 28]
abbrev dktX5_takes_1 : List UInt8 := dkwX5_takes_1 ++ dktX5_takes_2
def dkwX5_takes_0 : List UInt8 := [3, 61, 28, 42, 180, 0, 35, 162, 0, 16, 42, 180, 0, 24, 28, 3, 79, 132, 2, 1, 167, 255, 238, 3]
abbrev dktX5_takes_0 : List UInt8 := dkwX5_takes_0 ++ dktX5_takes_1
theorem dksX5_takes_0 : cX5_takes.data.toList.drop 0 = dktX5_takes_0 := by decide +kernel
theorem dksX5_takes_1 : cX5_takes.data.toList.drop 24 = dktX5_takes_1 := dk_seg dksX5_takes_0 24 rfl rfl
theorem dksX5_takes_2 : cX5_takes.data.toList.drop 48 = dktX5_takes_2 := dk_seg dksX5_takes_1 24 rfl rfl
theorem dksX5_takes_3 : cX5_takes.data.toList.drop 72 = dktX5_takes_3 := dk_seg dksX5_takes_2 24 rfl rfl
theorem dX5_takes_0 : decode cX5_takes 0 = .ok (.iconst 0, 1) := dk_3 (dk_at dksX5_takes_0 0 rfl rfl)
theorem dX5_takes_1 : decode cX5_takes 1 = .ok (.istore_n 2, 1) := dk_61 (dk_at dksX5_takes_0 1 rfl rfl)
theorem dX5_takes_2 : decode cX5_takes 2 = .ok (.iload_n 2, 1) := dk_28 (dk_at dksX5_takes_0 2 rfl rfl)
theorem dX5_takes_3 : decode cX5_takes 3 = .ok (.aload_n 0, 1) := dk_42 (dk_at dksX5_takes_0 3 rfl rfl)
theorem dX5_takes_4 : decode cX5_takes 4 = .ok (.getfield 35, 3) := dk_180 0 35 (dk_at dksX5_takes_0 4 rfl rfl)
theorem dX5_takes_7 : decode cX5_takes 7 = .ok (.if_icmp .ge 16, 3) := dk_162 0 16 (dk_at dksX5_takes_0 7 rfl rfl)
theorem dX5_takes_10 : decode cX5_takes 10 = .ok (.aload_n 0, 1) := dk_42 (dk_at dksX5_takes_0 10 rfl rfl)
theorem dX5_takes_11 : decode cX5_takes 11 = .ok (.getfield 24, 3) := dk_180 0 24 (dk_at dksX5_takes_0 11 rfl rfl)
theorem dX5_takes_14 : decode cX5_takes 14 = .ok (.iload_n 2, 1) := dk_28 (dk_at dksX5_takes_0 14 rfl rfl)
theorem dX5_takes_15 : decode cX5_takes 15 = .ok (.iconst 0, 1) := dk_3 (dk_at dksX5_takes_0 15 rfl rfl)
theorem dX5_takes_16 : decode cX5_takes 16 = .ok (.iastore, 1) := dk_79 (dk_at dksX5_takes_0 16 rfl rfl)
theorem dX5_takes_17 : decode cX5_takes 17 = .ok (.iinc 2 1, 3) := dk_132 2 1 (dk_at dksX5_takes_0 17 rfl rfl)
theorem dX5_takes_20 : decode cX5_takes 20 = .ok (.goto (-18), 3) := dk_167 255 238 (dk_at dksX5_takes_0 20 rfl rfl)
theorem dX5_takes_23 : decode cX5_takes 23 = .ok (.iconst 0, 1) := dk_3 (dk_at dksX5_takes_0 23 rfl rfl)
theorem dX5_takes_24 : decode cX5_takes 24 = .ok (.istore_n 2, 1) := dk_61 (dk_at dksX5_takes_1 0 rfl rfl)
theorem dX5_takes_25 : decode cX5_takes 25 = .ok (.iload_n 2, 1) := dk_28 (dk_at dksX5_takes_1 1 rfl rfl)
theorem dX5_takes_26 : decode cX5_takes 26 = .ok (.aload_n 0, 1) := dk_42 (dk_at dksX5_takes_1 2 rfl rfl)
theorem dX5_takes_27 : decode cX5_takes 27 = .ok (.getfield 27, 3) := dk_180 0 27 (dk_at dksX5_takes_1 3 rfl rfl)
theorem dX5_takes_30 : decode cX5_takes 30 = .ok (.getfield 86, 3) := dk_180 0 86 (dk_at dksX5_takes_1 6 rfl rfl)
theorem dX5_takes_33 : decode cX5_takes 33 = .ok (.if_icmp .ge 58, 3) := dk_162 0 58 (dk_at dksX5_takes_1 9 rfl rfl)
theorem dX5_takes_36 : decode cX5_takes 36 = .ok (.iconst 0, 1) := dk_3 (dk_at dksX5_takes_1 12 rfl rfl)
theorem dX5_takes_37 : decode cX5_takes 37 = .ok (.istore_n 3, 1) := dk_62 (dk_at dksX5_takes_1 13 rfl rfl)
theorem dX5_takes_38 : decode cX5_takes 38 = .ok (.iload_n 3, 1) := dk_29 (dk_at dksX5_takes_1 14 rfl rfl)
theorem dX5_takes_39 : decode cX5_takes 39 = .ok (.aload_n 0, 1) := dk_42 (dk_at dksX5_takes_1 15 rfl rfl)
theorem dX5_takes_40 : decode cX5_takes 40 = .ok (.getfield 27, 3) := dk_180 0 27 (dk_at dksX5_takes_1 16 rfl rfl)
theorem dX5_takes_43 : decode cX5_takes 43 = .ok (.aload_n 1, 1) := dk_43 (dk_at dksX5_takes_1 19 rfl rfl)
theorem dX5_takes_44 : decode cX5_takes 44 = .ok (.getfield 89, 3) := dk_180 0 89 (dk_at dksX5_takes_1 20 rfl rfl)
theorem dX5_takes_47 : decode cX5_takes 47 = .ok (.iload_n 2, 1) := dk_28 (dk_at dksX5_takes_1 23 rfl rfl)
theorem dX5_takes_48 : decode cX5_takes 48 = .ok (.iaload, 1) := dk_46 (dk_at dksX5_takes_2 0 rfl rfl)
theorem dX5_takes_49 : decode cX5_takes 49 = .ok (.invokevirtual 94, 3) := dk_182 0 94 (dk_at dksX5_takes_2 1 rfl rfl)
theorem dX5_takes_52 : decode cX5_takes 52 = .ok (.if_icmp .ge 33, 3) := dk_162 0 33 (dk_at dksX5_takes_2 4 rfl rfl)
theorem dX5_takes_55 : decode cX5_takes 55 = .ok (.aload_n 0, 1) := dk_42 (dk_at dksX5_takes_2 7 rfl rfl)
theorem dX5_takes_56 : decode cX5_takes 56 = .ok (.aload_n 1, 1) := dk_43 (dk_at dksX5_takes_2 8 rfl rfl)
theorem dX5_takes_57 : decode cX5_takes 57 = .ok (.getfield 89, 3) := dk_180 0 89 (dk_at dksX5_takes_2 9 rfl rfl)
theorem dX5_takes_60 : decode cX5_takes 60 = .ok (.iload_n 2, 1) := dk_28 (dk_at dksX5_takes_2 12 rfl rfl)
theorem dX5_takes_61 : decode cX5_takes 61 = .ok (.iaload, 1) := dk_46 (dk_at dksX5_takes_2 13 rfl rfl)
theorem dX5_takes_62 : decode cX5_takes 62 = .ok (.iload_n 3, 1) := dk_29 (dk_at dksX5_takes_2 14 rfl rfl)
theorem dX5_takes_63 : decode cX5_takes 63 = .ok (.aload_n 1, 1) := dk_43 (dk_at dksX5_takes_2 15 rfl rfl)
theorem dX5_takes_64 : decode cX5_takes 64 = .ok (.getfield 97, 3) := dk_180 0 97 (dk_at dksX5_takes_2 16 rfl rfl)
theorem dX5_takes_67 : decode cX5_takes 67 = .ok (.bipush 8, 2) := dk_16 8 (dk_at dksX5_takes_2 19 rfl rfl)
theorem dX5_takes_69 : decode cX5_takes 69 = .ok (.iload_n 2, 1) := dk_28 (dk_at dksX5_takes_2 21 rfl rfl)
theorem dX5_takes_70 : decode cX5_takes 70 = .ok (.imul, 1) := dk_104 (dk_at dksX5_takes_2 22 rfl rfl)
theorem dX5_takes_71 : decode cX5_takes 71 = .ok (.iload_n 3, 1) := dk_29 (dk_at dksX5_takes_2 23 rfl rfl)
theorem dX5_takes_72 : decode cX5_takes 72 = .ok (.iadd, 1) := dk_96 (dk_at dksX5_takes_3 0 rfl rfl)
theorem dX5_takes_73 : decode cX5_takes 73 = .ok (.iaload, 1) := dk_46 (dk_at dksX5_takes_3 1 rfl rfl)
theorem dX5_takes_74 : decode cX5_takes 74 = .ok (.iload_n 2, 1) := dk_28 (dk_at dksX5_takes_3 2 rfl rfl)
theorem dX5_takes_75 : decode cX5_takes 75 = .ok (.invokevirtual 100, 3) := dk_182 0 100 (dk_at dksX5_takes_3 3 rfl rfl)
theorem dX5_takes_78 : decode cX5_takes 78 = .ok (.pop, 1) := dk_87 (dk_at dksX5_takes_3 6 rfl rfl)
theorem dX5_takes_79 : decode cX5_takes 79 = .ok (.iinc 3 1, 3) := dk_132 3 1 (dk_at dksX5_takes_3 7 rfl rfl)
theorem dX5_takes_82 : decode cX5_takes 82 = .ok (.goto (-44), 3) := dk_167 255 212 (dk_at dksX5_takes_3 10 rfl rfl)
theorem dX5_takes_85 : decode cX5_takes 85 = .ok (.iinc 2 1, 3) := dk_132 2 1 (dk_at dksX5_takes_3 13 rfl rfl)
theorem dX5_takes_88 : decode cX5_takes 88 = .ok (.goto (-63), 3) := dk_167 255 193 (dk_at dksX5_takes_3 16 rfl rfl)
theorem dX5_takes_91 : decode cX5_takes 91 = .ok (.aload_n 0, 1) := dk_42 (dk_at dksX5_takes_3 19 rfl rfl)
theorem dX5_takes_92 : decode cX5_takes 92 = .ok (.areturn, 1) := dk_176 (dk_at dksX5_takes_3 20 rfl rfl)
abbrev cX5_yields : ByteArray := prog_9_method_12_code
def yX5_yields : MethodName := ⟨RX5, "yields", "(I)I"⟩
def dkwX5_yields_2 : List UInt8 := [46, 96, 61, 132, 3, 1, 167, 255, 206, 28, 172]
abbrev dktX5_yields_2 : List UInt8 := dkwX5_yields_2 ++ []
def dkwX5_yields_1 : List UInt8 := [27, 2, 159, 0, 16, 42, 180, 0, 17, 29, 50, 180, 0, 68, 27, 160, 0, 12, 28, 42, 180, 0, 24, 29]
abbrev dktX5_yields_1 : List UInt8 := dkwX5_yields_1 ++ dktX5_yields_2
def dkwX5_yields_0 : List UInt8 := [3, 61, 3, 62, 29, 42, 180, 0, 35, 162, 0, 48, 42, 180, 0, 17, 29, 50, 182, 0, 104, 154, 0, 30]
abbrev dktX5_yields_0 : List UInt8 := dkwX5_yields_0 ++ dktX5_yields_1
theorem dksX5_yields_0 : cX5_yields.data.toList.drop 0 = dktX5_yields_0 := by decide +kernel
theorem dksX5_yields_1 : cX5_yields.data.toList.drop 24 = dktX5_yields_1 := dk_seg dksX5_yields_0 24 rfl rfl
theorem dksX5_yields_2 : cX5_yields.data.toList.drop 48 = dktX5_yields_2 := dk_seg dksX5_yields_1 24 rfl rfl
theorem dX5_yields_0 : decode cX5_yields 0 = .ok (.iconst 0, 1) := dk_3 (dk_at dksX5_yields_0 0 rfl rfl)
theorem dX5_yields_1 : decode cX5_yields 1 = .ok (.istore_n 2, 1) := dk_61 (dk_at dksX5_yields_0 1 rfl rfl)
theorem dX5_yields_2 : decode cX5_yields 2 = .ok (.iconst 0, 1) := dk_3 (dk_at dksX5_yields_0 2 rfl rfl)
theorem dX5_yields_3 : decode cX5_yields 3 = .ok (.istore_n 3, 1) := dk_62 (dk_at dksX5_yields_0 3 rfl rfl)
theorem dX5_yields_4 : decode cX5_yields 4 = .ok (.iload_n 3, 1) := dk_29 (dk_at dksX5_yields_0 4 rfl rfl)
theorem dX5_yields_5 : decode cX5_yields 5 = .ok (.aload_n 0, 1) := dk_42 (dk_at dksX5_yields_0 5 rfl rfl)
theorem dX5_yields_6 : decode cX5_yields 6 = .ok (.getfield 35, 3) := dk_180 0 35 (dk_at dksX5_yields_0 6 rfl rfl)
theorem dX5_yields_9 : decode cX5_yields 9 = .ok (.if_icmp .ge 48, 3) := dk_162 0 48 (dk_at dksX5_yields_0 9 rfl rfl)
theorem dX5_yields_12 : decode cX5_yields 12 = .ok (.aload_n 0, 1) := dk_42 (dk_at dksX5_yields_0 12 rfl rfl)
theorem dX5_yields_13 : decode cX5_yields 13 = .ok (.getfield 17, 3) := dk_180 0 17 (dk_at dksX5_yields_0 13 rfl rfl)
theorem dX5_yields_16 : decode cX5_yields 16 = .ok (.iload_n 3, 1) := dk_29 (dk_at dksX5_yields_0 16 rfl rfl)
theorem dX5_yields_17 : decode cX5_yields 17 = .ok (.aaload, 1) := dk_50 (dk_at dksX5_yields_0 17 rfl rfl)
theorem dX5_yields_18 : decode cX5_yields 18 = .ok (.invokevirtual 104, 3) := dk_182 0 104 (dk_at dksX5_yields_0 18 rfl rfl)
theorem dX5_yields_21 : decode cX5_yields 21 = .ok (.ifCond .ne 30, 3) := dk_154 0 30 (dk_at dksX5_yields_0 21 rfl rfl)
theorem dX5_yields_24 : decode cX5_yields 24 = .ok (.iload_n 1, 1) := dk_27 (dk_at dksX5_yields_1 0 rfl rfl)
theorem dX5_yields_25 : decode cX5_yields 25 = .ok (.iconst (-1), 1) := dk_2 (dk_at dksX5_yields_1 1 rfl rfl)
theorem dX5_yields_26 : decode cX5_yields 26 = .ok (.if_icmp .eq 16, 3) := dk_159 0 16 (dk_at dksX5_yields_1 2 rfl rfl)
theorem dX5_yields_29 : decode cX5_yields 29 = .ok (.aload_n 0, 1) := dk_42 (dk_at dksX5_yields_1 5 rfl rfl)
theorem dX5_yields_30 : decode cX5_yields 30 = .ok (.getfield 17, 3) := dk_180 0 17 (dk_at dksX5_yields_1 6 rfl rfl)
theorem dX5_yields_33 : decode cX5_yields 33 = .ok (.iload_n 3, 1) := dk_29 (dk_at dksX5_yields_1 9 rfl rfl)
theorem dX5_yields_34 : decode cX5_yields 34 = .ok (.aaload, 1) := dk_50 (dk_at dksX5_yields_1 10 rfl rfl)
theorem dX5_yields_35 : decode cX5_yields 35 = .ok (.getfield 68, 3) := dk_180 0 68 (dk_at dksX5_yields_1 11 rfl rfl)
theorem dX5_yields_38 : decode cX5_yields 38 = .ok (.iload_n 1, 1) := dk_27 (dk_at dksX5_yields_1 14 rfl rfl)
theorem dX5_yields_39 : decode cX5_yields 39 = .ok (.if_icmp .ne 12, 3) := dk_160 0 12 (dk_at dksX5_yields_1 15 rfl rfl)
theorem dX5_yields_42 : decode cX5_yields 42 = .ok (.iload_n 2, 1) := dk_28 (dk_at dksX5_yields_1 18 rfl rfl)
theorem dX5_yields_43 : decode cX5_yields 43 = .ok (.aload_n 0, 1) := dk_42 (dk_at dksX5_yields_1 19 rfl rfl)
theorem dX5_yields_44 : decode cX5_yields 44 = .ok (.getfield 24, 3) := dk_180 0 24 (dk_at dksX5_yields_1 20 rfl rfl)
theorem dX5_yields_47 : decode cX5_yields 47 = .ok (.iload_n 3, 1) := dk_29 (dk_at dksX5_yields_1 23 rfl rfl)
theorem dX5_yields_48 : decode cX5_yields 48 = .ok (.iaload, 1) := dk_46 (dk_at dksX5_yields_2 0 rfl rfl)
theorem dX5_yields_49 : decode cX5_yields 49 = .ok (.iadd, 1) := dk_96 (dk_at dksX5_yields_2 1 rfl rfl)
theorem dX5_yields_50 : decode cX5_yields 50 = .ok (.istore_n 2, 1) := dk_61 (dk_at dksX5_yields_2 2 rfl rfl)
theorem dX5_yields_51 : decode cX5_yields 51 = .ok (.iinc 3 1, 3) := dk_132 3 1 (dk_at dksX5_yields_2 3 rfl rfl)
theorem dX5_yields_54 : decode cX5_yields 54 = .ok (.goto (-50), 3) := dk_167 255 206 (dk_at dksX5_yields_2 6 rfl rfl)
theorem dX5_yields_57 : decode cX5_yields 57 = .ok (.iload_n 2, 1) := dk_28 (dk_at dksX5_yields_2 9 rfl rfl)
theorem dX5_yields_58 : decode cX5_yields 58 = .ok (.ireturn, 1) := dk_172 (dk_at dksX5_yields_2 10 rfl rfl)
abbrev cX5_isFree : ByteArray := prog_9_method_6_code
def yX5_isFree : MethodName := ⟨RX5, "isFree", "(I)Z"⟩
def dkwX5_isFree_1 : List UInt8 := [3, 172]
abbrev dktX5_isFree_1 : List UInt8 := dkwX5_isFree_1 ++ []
def dkwX5_isFree_0 : List UInt8 := [42, 180, 0, 27, 27, 182, 0, 64, 153, 0, 16, 42, 180, 0, 9, 27, 46, 154, 0, 7, 4, 167, 0, 4]
abbrev dktX5_isFree_0 : List UInt8 := dkwX5_isFree_0 ++ dktX5_isFree_1
theorem dksX5_isFree_0 : cX5_isFree.data.toList.drop 0 = dktX5_isFree_0 := by decide +kernel
theorem dksX5_isFree_1 : cX5_isFree.data.toList.drop 24 = dktX5_isFree_1 := dk_seg dksX5_isFree_0 24 rfl rfl
theorem dX5_isFree_0 : decode cX5_isFree 0 = .ok (.aload_n 0, 1) := dk_42 (dk_at dksX5_isFree_0 0 rfl rfl)
theorem dX5_isFree_1 : decode cX5_isFree 1 = .ok (.getfield 27, 3) := dk_180 0 27 (dk_at dksX5_isFree_0 1 rfl rfl)
theorem dX5_isFree_4 : decode cX5_isFree 4 = .ok (.iload_n 1, 1) := dk_27 (dk_at dksX5_isFree_0 4 rfl rfl)
theorem dX5_isFree_5 : decode cX5_isFree 5 = .ok (.invokevirtual 64, 3) := dk_182 0 64 (dk_at dksX5_isFree_0 5 rfl rfl)
theorem dX5_isFree_8 : decode cX5_isFree 8 = .ok (.ifCond .eq 16, 3) := dk_153 0 16 (dk_at dksX5_isFree_0 8 rfl rfl)
theorem dX5_isFree_11 : decode cX5_isFree 11 = .ok (.aload_n 0, 1) := dk_42 (dk_at dksX5_isFree_0 11 rfl rfl)
theorem dX5_isFree_12 : decode cX5_isFree 12 = .ok (.getfield 9, 3) := dk_180 0 9 (dk_at dksX5_isFree_0 12 rfl rfl)
theorem dX5_isFree_15 : decode cX5_isFree 15 = .ok (.iload_n 1, 1) := dk_27 (dk_at dksX5_isFree_0 15 rfl rfl)
theorem dX5_isFree_16 : decode cX5_isFree 16 = .ok (.iaload, 1) := dk_46 (dk_at dksX5_isFree_0 16 rfl rfl)
theorem dX5_isFree_17 : decode cX5_isFree 17 = .ok (.ifCond .ne 7, 3) := dk_154 0 7 (dk_at dksX5_isFree_0 17 rfl rfl)
theorem dX5_isFree_20 : decode cX5_isFree 20 = .ok (.iconst 1, 1) := dk_4 (dk_at dksX5_isFree_0 20 rfl rfl)
theorem dX5_isFree_21 : decode cX5_isFree 21 = .ok (.goto 4, 3) := dk_167 0 4 (dk_at dksX5_isFree_0 21 rfl rfl)
theorem dX5_isFree_24 : decode cX5_isFree 24 = .ok (.iconst 0, 1) := dk_3 (dk_at dksX5_isFree_1 0 rfl rfl)
theorem dX5_isFree_25 : decode cX5_isFree 25 = .ok (.ireturn, 1) := dk_172 (dk_at dksX5_isFree_1 1 rfl rfl)
abbrev cX5_moves : ByteArray := prog_9_method_8_code
def yX5_moves : MethodName := ⟨RX5, "moves", "(II)V"⟩
def dkwX5_moves_1 : List UInt8 := [27, 4, 96, 79, 177]
abbrev dktX5_moves_1 : List UInt8 := dkwX5_moves_1 ++ []
def dkwX5_moves_0 : List UInt8 := [42, 180, 0, 9, 42, 180, 0, 21, 27, 46, 3, 79, 42, 180, 0, 21, 27, 28, 79, 42, 180, 0, 9, 28]
abbrev dktX5_moves_0 : List UInt8 := dkwX5_moves_0 ++ dktX5_moves_1
theorem dksX5_moves_0 : cX5_moves.data.toList.drop 0 = dktX5_moves_0 := by decide +kernel
theorem dksX5_moves_1 : cX5_moves.data.toList.drop 24 = dktX5_moves_1 := dk_seg dksX5_moves_0 24 rfl rfl
theorem dX5_moves_0 : decode cX5_moves 0 = .ok (.aload_n 0, 1) := dk_42 (dk_at dksX5_moves_0 0 rfl rfl)
theorem dX5_moves_1 : decode cX5_moves 1 = .ok (.getfield 9, 3) := dk_180 0 9 (dk_at dksX5_moves_0 1 rfl rfl)
theorem dX5_moves_4 : decode cX5_moves 4 = .ok (.aload_n 0, 1) := dk_42 (dk_at dksX5_moves_0 4 rfl rfl)
theorem dX5_moves_5 : decode cX5_moves 5 = .ok (.getfield 21, 3) := dk_180 0 21 (dk_at dksX5_moves_0 5 rfl rfl)
theorem dX5_moves_8 : decode cX5_moves 8 = .ok (.iload_n 1, 1) := dk_27 (dk_at dksX5_moves_0 8 rfl rfl)
theorem dX5_moves_9 : decode cX5_moves 9 = .ok (.iaload, 1) := dk_46 (dk_at dksX5_moves_0 9 rfl rfl)
theorem dX5_moves_10 : decode cX5_moves 10 = .ok (.iconst 0, 1) := dk_3 (dk_at dksX5_moves_0 10 rfl rfl)
theorem dX5_moves_11 : decode cX5_moves 11 = .ok (.iastore, 1) := dk_79 (dk_at dksX5_moves_0 11 rfl rfl)
theorem dX5_moves_12 : decode cX5_moves 12 = .ok (.aload_n 0, 1) := dk_42 (dk_at dksX5_moves_0 12 rfl rfl)
theorem dX5_moves_13 : decode cX5_moves 13 = .ok (.getfield 21, 3) := dk_180 0 21 (dk_at dksX5_moves_0 13 rfl rfl)
theorem dX5_moves_16 : decode cX5_moves 16 = .ok (.iload_n 1, 1) := dk_27 (dk_at dksX5_moves_0 16 rfl rfl)
theorem dX5_moves_17 : decode cX5_moves 17 = .ok (.iload_n 2, 1) := dk_28 (dk_at dksX5_moves_0 17 rfl rfl)
theorem dX5_moves_18 : decode cX5_moves 18 = .ok (.iastore, 1) := dk_79 (dk_at dksX5_moves_0 18 rfl rfl)
theorem dX5_moves_19 : decode cX5_moves 19 = .ok (.aload_n 0, 1) := dk_42 (dk_at dksX5_moves_0 19 rfl rfl)
theorem dX5_moves_20 : decode cX5_moves 20 = .ok (.getfield 9, 3) := dk_180 0 9 (dk_at dksX5_moves_0 20 rfl rfl)
theorem dX5_moves_23 : decode cX5_moves 23 = .ok (.iload_n 2, 1) := dk_28 (dk_at dksX5_moves_0 23 rfl rfl)
theorem dX5_moves_24 : decode cX5_moves 24 = .ok (.iload_n 1, 1) := dk_27 (dk_at dksX5_moves_1 0 rfl rfl)
theorem dX5_moves_25 : decode cX5_moves 25 = .ok (.iconst 1, 1) := dk_4 (dk_at dksX5_moves_1 1 rfl rfl)
theorem dX5_moves_26 : decode cX5_moves 26 = .ok (.iadd, 1) := dk_96 (dk_at dksX5_moves_1 2 rfl rfl)
theorem dX5_moves_27 : decode cX5_moves 27 = .ok (.iastore, 1) := dk_79 (dk_at dksX5_moves_1 3 rfl rfl)
theorem dX5_moves_28 : decode cX5_moves 28 = .ok (.return_, 1) := dk_177 (dk_at dksX5_moves_1 4 rfl rfl)
abbrev cX5_takesLast : ByteArray := prog_9_method_4_code
def yX5_takesLast : MethodName := ⟨RX5, "takesLast", "()V"⟩
def dkwX5_takesLast_1 : List UInt8 := [79, 177]
abbrev dktX5_takesLast_1 : List UInt8 := dkwX5_takesLast_1 ++ []
def dkwX5_takesLast_0 : List UInt8 := [42, 89, 180, 0, 35, 4, 100, 181, 0, 35, 42, 180, 0, 9, 42, 180, 0, 21, 42, 180, 0, 35, 46, 3]
abbrev dktX5_takesLast_0 : List UInt8 := dkwX5_takesLast_0 ++ dktX5_takesLast_1
theorem dksX5_takesLast_0 : cX5_takesLast.data.toList.drop 0 = dktX5_takesLast_0 := by decide +kernel
theorem dksX5_takesLast_1 : cX5_takesLast.data.toList.drop 24 = dktX5_takesLast_1 := dk_seg dksX5_takesLast_0 24 rfl rfl
theorem dX5_takesLast_0 : decode cX5_takesLast 0 = .ok (.aload_n 0, 1) := dk_42 (dk_at dksX5_takesLast_0 0 rfl rfl)
theorem dX5_takesLast_1 : decode cX5_takesLast 1 = .ok (.dup, 1) := dk_89 (dk_at dksX5_takesLast_0 1 rfl rfl)
theorem dX5_takesLast_2 : decode cX5_takesLast 2 = .ok (.getfield 35, 3) := dk_180 0 35 (dk_at dksX5_takesLast_0 2 rfl rfl)
theorem dX5_takesLast_5 : decode cX5_takesLast 5 = .ok (.iconst 1, 1) := dk_4 (dk_at dksX5_takesLast_0 5 rfl rfl)
theorem dX5_takesLast_6 : decode cX5_takesLast 6 = .ok (.isub, 1) := dk_100 (dk_at dksX5_takesLast_0 6 rfl rfl)
theorem dX5_takesLast_7 : decode cX5_takesLast 7 = .ok (.putfield 35, 3) := dk_181 0 35 (dk_at dksX5_takesLast_0 7 rfl rfl)
theorem dX5_takesLast_10 : decode cX5_takesLast 10 = .ok (.aload_n 0, 1) := dk_42 (dk_at dksX5_takesLast_0 10 rfl rfl)
theorem dX5_takesLast_11 : decode cX5_takesLast 11 = .ok (.getfield 9, 3) := dk_180 0 9 (dk_at dksX5_takesLast_0 11 rfl rfl)
theorem dX5_takesLast_14 : decode cX5_takesLast 14 = .ok (.aload_n 0, 1) := dk_42 (dk_at dksX5_takesLast_0 14 rfl rfl)
theorem dX5_takesLast_15 : decode cX5_takesLast 15 = .ok (.getfield 21, 3) := dk_180 0 21 (dk_at dksX5_takesLast_0 15 rfl rfl)
theorem dX5_takesLast_18 : decode cX5_takesLast 18 = .ok (.aload_n 0, 1) := dk_42 (dk_at dksX5_takesLast_0 18 rfl rfl)
theorem dX5_takesLast_19 : decode cX5_takesLast 19 = .ok (.getfield 35, 3) := dk_180 0 35 (dk_at dksX5_takesLast_0 19 rfl rfl)
theorem dX5_takesLast_22 : decode cX5_takesLast 22 = .ok (.iaload, 1) := dk_46 (dk_at dksX5_takesLast_0 22 rfl rfl)
theorem dX5_takesLast_23 : decode cX5_takesLast 23 = .ok (.iconst 0, 1) := dk_3 (dk_at dksX5_takesLast_0 23 rfl rfl)
theorem dX5_takesLast_24 : decode cX5_takesLast 24 = .ok (.iastore, 1) := dk_79 (dk_at dksX5_takesLast_1 0 rfl rfl)
theorem dX5_takesLast_25 : decode cX5_takesLast 25 = .ok (.return_, 1) := dk_177 (dk_at dksX5_takesLast_1 1 rfl rfl)
abbrev cX5_shows : ByteArray := prog_9_method_9_code
def yX5_shows : MethodName := ⟨RX5, "shows", "(IZ)V"⟩
def dkwX5_shows_2 : List UInt8 := [167, 255, 210, 177]
abbrev dktX5_shows_2 : List UInt8 := dkwX5_shows_2 ++ []
def dkwX5_shows_1 : List UInt8 := [180, 0, 9, 42, 180, 0, 21, 29, 46, 28, 153, 0, 9, 29, 4, 96, 167, 0, 4, 3, 79, 132, 3, 1]
abbrev dktX5_shows_1 : List UInt8 := dkwX5_shows_1 ++ dktX5_shows_2
def dkwX5_shows_0 : List UInt8 := [3, 62, 29, 42, 180, 0, 35, 162, 0, 44, 42, 180, 0, 17, 29, 50, 180, 0, 68, 27, 160, 0, 25, 42]
abbrev dktX5_shows_0 : List UInt8 := dkwX5_shows_0 ++ dktX5_shows_1
theorem dksX5_shows_0 : cX5_shows.data.toList.drop 0 = dktX5_shows_0 := by decide +kernel
theorem dksX5_shows_1 : cX5_shows.data.toList.drop 24 = dktX5_shows_1 := dk_seg dksX5_shows_0 24 rfl rfl
theorem dksX5_shows_2 : cX5_shows.data.toList.drop 48 = dktX5_shows_2 := dk_seg dksX5_shows_1 24 rfl rfl
theorem dX5_shows_0 : decode cX5_shows 0 = .ok (.iconst 0, 1) := dk_3 (dk_at dksX5_shows_0 0 rfl rfl)
theorem dX5_shows_1 : decode cX5_shows 1 = .ok (.istore_n 3, 1) := dk_62 (dk_at dksX5_shows_0 1 rfl rfl)
theorem dX5_shows_2 : decode cX5_shows 2 = .ok (.iload_n 3, 1) := dk_29 (dk_at dksX5_shows_0 2 rfl rfl)
theorem dX5_shows_3 : decode cX5_shows 3 = .ok (.aload_n 0, 1) := dk_42 (dk_at dksX5_shows_0 3 rfl rfl)
theorem dX5_shows_4 : decode cX5_shows 4 = .ok (.getfield 35, 3) := dk_180 0 35 (dk_at dksX5_shows_0 4 rfl rfl)
theorem dX5_shows_7 : decode cX5_shows 7 = .ok (.if_icmp .ge 44, 3) := dk_162 0 44 (dk_at dksX5_shows_0 7 rfl rfl)
theorem dX5_shows_10 : decode cX5_shows 10 = .ok (.aload_n 0, 1) := dk_42 (dk_at dksX5_shows_0 10 rfl rfl)
theorem dX5_shows_11 : decode cX5_shows 11 = .ok (.getfield 17, 3) := dk_180 0 17 (dk_at dksX5_shows_0 11 rfl rfl)
theorem dX5_shows_14 : decode cX5_shows 14 = .ok (.iload_n 3, 1) := dk_29 (dk_at dksX5_shows_0 14 rfl rfl)
theorem dX5_shows_15 : decode cX5_shows 15 = .ok (.aaload, 1) := dk_50 (dk_at dksX5_shows_0 15 rfl rfl)
theorem dX5_shows_16 : decode cX5_shows 16 = .ok (.getfield 68, 3) := dk_180 0 68 (dk_at dksX5_shows_0 16 rfl rfl)
theorem dX5_shows_19 : decode cX5_shows 19 = .ok (.iload_n 1, 1) := dk_27 (dk_at dksX5_shows_0 19 rfl rfl)
theorem dX5_shows_20 : decode cX5_shows 20 = .ok (.if_icmp .ne 25, 3) := dk_160 0 25 (dk_at dksX5_shows_0 20 rfl rfl)
theorem dX5_shows_23 : decode cX5_shows 23 = .ok (.aload_n 0, 1) := dk_42 (dk_at dksX5_shows_0 23 rfl rfl)
theorem dX5_shows_24 : decode cX5_shows 24 = .ok (.getfield 9, 3) := dk_180 0 9 (dk_at dksX5_shows_1 0 rfl rfl)
theorem dX5_shows_27 : decode cX5_shows 27 = .ok (.aload_n 0, 1) := dk_42 (dk_at dksX5_shows_1 3 rfl rfl)
theorem dX5_shows_28 : decode cX5_shows 28 = .ok (.getfield 21, 3) := dk_180 0 21 (dk_at dksX5_shows_1 4 rfl rfl)
theorem dX5_shows_31 : decode cX5_shows 31 = .ok (.iload_n 3, 1) := dk_29 (dk_at dksX5_shows_1 7 rfl rfl)
theorem dX5_shows_32 : decode cX5_shows 32 = .ok (.iaload, 1) := dk_46 (dk_at dksX5_shows_1 8 rfl rfl)
theorem dX5_shows_33 : decode cX5_shows 33 = .ok (.iload_n 2, 1) := dk_28 (dk_at dksX5_shows_1 9 rfl rfl)
theorem dX5_shows_34 : decode cX5_shows 34 = .ok (.ifCond .eq 9, 3) := dk_153 0 9 (dk_at dksX5_shows_1 10 rfl rfl)
theorem dX5_shows_37 : decode cX5_shows 37 = .ok (.iload_n 3, 1) := dk_29 (dk_at dksX5_shows_1 13 rfl rfl)
theorem dX5_shows_38 : decode cX5_shows 38 = .ok (.iconst 1, 1) := dk_4 (dk_at dksX5_shows_1 14 rfl rfl)
theorem dX5_shows_39 : decode cX5_shows 39 = .ok (.iadd, 1) := dk_96 (dk_at dksX5_shows_1 15 rfl rfl)
theorem dX5_shows_40 : decode cX5_shows 40 = .ok (.goto 4, 3) := dk_167 0 4 (dk_at dksX5_shows_1 16 rfl rfl)
theorem dX5_shows_43 : decode cX5_shows 43 = .ok (.iconst 0, 1) := dk_3 (dk_at dksX5_shows_1 19 rfl rfl)
theorem dX5_shows_44 : decode cX5_shows 44 = .ok (.iastore, 1) := dk_79 (dk_at dksX5_shows_1 20 rfl rfl)
theorem dX5_shows_45 : decode cX5_shows 45 = .ok (.iinc 3 1, 3) := dk_132 3 1 (dk_at dksX5_shows_1 21 rfl rfl)
theorem dX5_shows_48 : decode cX5_shows 48 = .ok (.goto (-46), 3) := dk_167 255 210 (dk_at dksX5_shows_2 0 rfl rfl)
theorem dX5_shows_51 : decode cX5_shows 51 = .ok (.return_, 1) := dk_177 (dk_at dksX5_shows_2 3 rfl rfl)
theorem q100 : (Jvm.Cond.initialized "FogNets$Hung") ∈ lw_all := lw_g (lw_at lw_m1 8 rfl) rfl
theorem q289 : (Jvm.Cond.fieldLink "FogNets$Hung" (86 : Nat) "FogNets$Ridge" "hours" "I") ∈ lw_all := lw_g (lw_at lw_m1 197 rfl) rfl
theorem q311 : (Jvm.Cond.fieldLink "FogNets$Hung" (38 : Nat) "FogNets$Ridge" "nets" "Ljava/util/ArrayList;") ∈ lw_all := lw_g (lw_at lw_m1 219 rfl) rfl
theorem q314 : (Jvm.Cond.fieldLink "FogNets$Hung" (53 : Nat) "FogNets$Ridge" "at" "[I") ∈ lw_all := lw_g (lw_at lw_m1 222 rfl) rfl
theorem q345 : (Jvm.Cond.instantiable "FogNets$Hung" (7 : Nat)) ∈ lw_all := lw_g (lw_at lw_m2 13 rfl) rfl
theorem q347 : (Jvm.Cond.instanceMethod ({ cls := "FogNets$Hung", name := "<init>", desc := "()V" } : Jvm.MethodName)) ∈ lw_all := lw_g (lw_at lw_m2 15 rfl) rfl
theorem q348 : (Jvm.Cond.code ({ cls := "FogNets$Hung", name := "<init>", desc := "()V" } : Jvm.MethodName) prog_9_method_1_code (1 : Nat) (Option.none : Option Jvm.ClassFile.FieldType)) ∈ lw_all := lw_g (lw_at lw_m2 16 rfl) rfl
theorem q349 : (Jvm.Cond.methodLink "FogNets$Hung" (3 : Nat) ({ cls := "java/lang/Object", name := "<init>", desc := "()V" } : Jvm.MethodName)) ∈ lw_all := lw_g (lw_at lw_m2 17 rfl) rfl
theorem q350 : (Jvm.Cond.classLink "FogNets$Hung" (15 : Nat) "FogNets$Net") ∈ lw_all := lw_g (lw_at lw_m2 18 rfl) rfl
theorem q352 : (Jvm.Cond.fieldLink "FogNets$Hung" (27 : Nat) "FogNets$Hung" "ridge" "LFogNets$Ridge;") ∈ lw_all := lw_g (lw_at lw_m2 20 rfl) rfl
theorem q354 : (Jvm.Cond.fieldLink "FogNets$Hung" (9 : Nat) "FogNets$Hung" "netAt" "[I") ∈ lw_all := lw_g (lw_at lw_m2 22 rfl) rfl
theorem q356 : (Jvm.Cond.fieldLink "FogNets$Hung" (17 : Nat) "FogNets$Hung" "nets" "[LFogNets$Net;") ∈ lw_all := lw_g (lw_at lw_m2 24 rfl) rfl
theorem q358 : (Jvm.Cond.fieldLink "FogNets$Hung" (21 : Nat) "FogNets$Hung" "at" "[I") ∈ lw_all := lw_g (lw_at lw_m2 26 rfl) rfl
theorem q360 : (Jvm.Cond.fieldLink "FogNets$Hung" (31 : Nat) "FogNets$Hung" "mended" "I") ∈ lw_all := lw_g (lw_at lw_m2 28 rfl) rfl
theorem q362 : (Jvm.Cond.fieldLink "FogNets$Hung" (35 : Nat) "FogNets$Hung" "many" "I") ∈ lw_all := lw_g (lw_at lw_m2 30 rfl) rfl
theorem q364 : (Jvm.Cond.fieldLink "FogNets$Hung" (24 : Nat) "FogNets$Hung" "took" "[I") ∈ lw_all := lw_g (lw_at lw_m2 32 rfl) rfl
theorem q366 : (Jvm.Cond.lays "FogNets$Hung" "FogNets$Hung" "ridge" "LFogNets$Ridge;") ∈ lw_all := lw_g (lw_at lw_m2 34 rfl) rfl
theorem q367 : (Jvm.Cond.soleField "FogNets$Hung" "ridge") ∈ lw_all := lw_g (lw_at lw_m2 35 rfl) rfl
theorem q368 : (Jvm.Cond.laysFinal "FogNets$Hung" "FogNets$Hung" "netAt" "[I") ∈ lw_all := lw_g (lw_at lw_m2 36 rfl) rfl
theorem q369 : (Jvm.Cond.soleField "FogNets$Hung" "netAt") ∈ lw_all := lw_g (lw_at lw_m2 37 rfl) rfl
theorem q370 : (Jvm.Cond.laysFinal "FogNets$Hung" "FogNets$Hung" "nets" "[LFogNets$Net;") ∈ lw_all := lw_g (lw_at lw_m2 38 rfl) rfl
theorem q371 : (Jvm.Cond.soleField "FogNets$Hung" "nets") ∈ lw_all := lw_g (lw_at lw_m2 39 rfl) rfl
theorem q372 : (Jvm.Cond.laysFinal "FogNets$Hung" "FogNets$Hung" "at" "[I") ∈ lw_all := lw_g (lw_at lw_m2 40 rfl) rfl
theorem q373 : (Jvm.Cond.soleField "FogNets$Hung" "at") ∈ lw_all := lw_g (lw_at lw_m2 41 rfl) rfl
theorem q374 : (Jvm.Cond.lays "FogNets$Hung" "FogNets$Hung" "mended" "I") ∈ lw_all := lw_g (lw_at lw_m2 42 rfl) rfl
theorem q375 : (Jvm.Cond.soleField "FogNets$Hung" "mended") ∈ lw_all := lw_g (lw_at lw_m2 43 rfl) rfl
theorem q376 : (Jvm.Cond.lays "FogNets$Hung" "FogNets$Hung" "many" "I") ∈ lw_all := lw_g (lw_at lw_m2 44 rfl) rfl
theorem q377 : (Jvm.Cond.soleField "FogNets$Hung" "many") ∈ lw_all := lw_g (lw_at lw_m2 45 rfl) rfl
theorem q378 : (Jvm.Cond.laysFinal "FogNets$Hung" "FogNets$Hung" "took" "[I") ∈ lw_all := lw_g (lw_at lw_m2 46 rfl) rfl
theorem q379 : (Jvm.Cond.soleField "FogNets$Hung" "took") ∈ lw_all := lw_g (lw_at lw_m2 47 rfl) rfl
theorem q380 : (Jvm.Cond.superclass "FogNets$Hung" "java/lang/Object") ∈ lw_all := lw_g (lw_at lw_m2 48 rfl) rfl
theorem q409 : (Jvm.Cond.fieldLink "FogNets$Hung" (89 : Nat) "FogNets$Sky" "way" "[I") ∈ lw_all := lw_g (lw_at lw_m2 77 rfl) rfl
theorem q411 : (Jvm.Cond.fieldLink "FogNets$Hung" (97 : Nat) "FogNets$Sky" "bank" "[I") ∈ lw_all := lw_g (lw_at lw_m2 79 rfl) rfl
theorem q420 : (Jvm.Cond.instanceMethod ({ cls := "FogNets$Hung", name := "begins", desc := "(LFogNets$Ridge;)V" } : Jvm.MethodName)) ∈ lw_all := lw_g (lw_at lw_m2 88 rfl) rfl
theorem q421 : (Jvm.Cond.selects "FogNets$Hung" ({ cls := "FogNets$Hung", name := "begins", desc := "(LFogNets$Ridge;)V" } : Jvm.MethodName) ({ cls := "FogNets$Hung", name := "begins", desc := "(LFogNets$Ridge;)V" } : Jvm.MethodName)) ∈ lw_all := lw_g (lw_at lw_m2 89 rfl) rfl
theorem q422 : (Jvm.Cond.code ({ cls := "FogNets$Hung", name := "begins", desc := "(LFogNets$Ridge;)V" } : Jvm.MethodName) prog_9_method_2_code (3 : Nat) (Option.none : Option Jvm.ClassFile.FieldType)) ∈ lw_all := lw_g (lw_at lw_m2 90 rfl) rfl
theorem q423 : (Jvm.Cond.methodLink "FogNets$Hung" (43 : Nat) ({ cls := "java/util/ArrayList", name := "size", desc := "()I" } : Jvm.MethodName)) ∈ lw_all := lw_g (lw_at lw_m2 91 rfl) rfl
theorem q427 : (Jvm.Cond.methodLink "FogNets$Hung" (49 : Nat) ({ cls := "java/util/ArrayList", name := "get", desc := "(I)Ljava/lang/Object;" } : Jvm.MethodName)) ∈ lw_all := lw_g (lw_at lw_m2 95 rfl) rfl
theorem q441 : (Jvm.Cond.methodLink "FogNets$Hung" (54 : Nat) ({ cls := "FogNets$Hung", name := "hangs", desc := "(LFogNets$Net;I)V" } : Jvm.MethodName)) ∈ lw_all := lw_g (lw_at lw_m2 109 rfl) rfl
theorem q442 : (Jvm.Cond.instanceMethod ({ cls := "FogNets$Hung", name := "hangs", desc := "(LFogNets$Net;I)V" } : Jvm.MethodName)) ∈ lw_all := lw_g (lw_at lw_m2 110 rfl) rfl
theorem q443 : (Jvm.Cond.selects "FogNets$Hung" ({ cls := "FogNets$Hung", name := "hangs", desc := "(LFogNets$Net;I)V" } : Jvm.MethodName) ({ cls := "FogNets$Hung", name := "hangs", desc := "(LFogNets$Net;I)V" } : Jvm.MethodName)) ∈ lw_all := lw_g (lw_at lw_m2 111 rfl) rfl
theorem q444 : (Jvm.Cond.code ({ cls := "FogNets$Hung", name := "hangs", desc := "(LFogNets$Net;I)V" } : Jvm.MethodName) prog_9_method_3_code (3 : Nat) (Option.none : Option Jvm.ClassFile.FieldType)) ∈ lw_all := lw_g (lw_at lw_m2 112 rfl) rfl
theorem q867 : (Jvm.Cond.selects "FogNets$Hung" ({ cls := "java/lang/Object", name := "getClass", desc := "()Ljava/lang/Class;" } : Jvm.MethodName) ({ cls := "java/lang/Object", name := "getClass", desc := "()Ljava/lang/Class;" } : Jvm.MethodName)) ∈ lw_all := lw_g (lw_at lw_m4 55 rfl) rfl
theorem q1018 : (Jvm.Cond.fieldLink "FogNets$Hung" (68 : Nat) "FogNets$Net" "village" "I") ∈ lw_all := lw_g (lw_at lw_m4 206 rfl) rfl
theorem q1108 : (Jvm.Cond.instanceMethod ({ cls := "FogNets$Hung", name := "isMended", desc := "(I)Z" } : Jvm.MethodName)) ∈ lw_all := lw_g (lw_at lw_m5 56 rfl) rfl
theorem q1109 : (Jvm.Cond.selects "FogNets$Hung" ({ cls := "FogNets$Hung", name := "isMended", desc := "(I)Z" } : Jvm.MethodName) ({ cls := "FogNets$Hung", name := "isMended", desc := "(I)Z" } : Jvm.MethodName)) ∈ lw_all := lw_g (lw_at lw_m5 57 rfl) rfl
theorem q1110 : (Jvm.Cond.code ({ cls := "FogNets$Hung", name := "isMended", desc := "(I)Z" } : Jvm.MethodName) prog_9_method_7_code (2 : Nat) (Option.some Jvm.ClassFile.FieldType.boolean)) ∈ lw_all := lw_g (lw_at lw_m5 58 rfl) rfl
theorem q1206 : (Jvm.Cond.instanceMethod ({ cls := "FogNets$Hung", name := "copies", desc := "(LFogNets$Hung;)LFogNets$Hung;" } : Jvm.MethodName)) ∈ lw_all := lw_g (lw_at lw_m5 154 rfl) rfl
theorem q1207 : (Jvm.Cond.selects "FogNets$Hung" ({ cls := "FogNets$Hung", name := "copies", desc := "(LFogNets$Hung;)LFogNets$Hung;" } : Jvm.MethodName) ({ cls := "FogNets$Hung", name := "copies", desc := "(LFogNets$Hung;)LFogNets$Hung;" } : Jvm.MethodName)) ∈ lw_all := lw_g (lw_at lw_m5 155 rfl) rfl
theorem q1208 : (Jvm.Cond.code ({ cls := "FogNets$Hung", name := "copies", desc := "(LFogNets$Hung;)LFogNets$Hung;" } : Jvm.MethodName) prog_9_method_5_code (2 : Nat) (Option.some (Jvm.ClassFile.FieldType.object "FogNets$Hung"))) ∈ lw_all := lw_g (lw_at lw_m5 156 rfl) rfl
theorem q1209 : (Jvm.Cond.methodLink "FogNets$Hung" (58 : Nat) ({ cls := "java/lang/System", name := "arraycopy", desc := "(Ljava/lang/Object;ILjava/lang/Object;II)V" } : Jvm.MethodName)) ∈ lw_all := lw_g (lw_at lw_m5 157 rfl) rfl
theorem q1211 : (Jvm.Cond.instanceMethod ({ cls := "FogNets$Hung", name := "blows", desc := "(IIII)I" } : Jvm.MethodName)) ∈ lw_all := lw_g (lw_at lw_m5 159 rfl) rfl
theorem q1212 : (Jvm.Cond.selects "FogNets$Hung" ({ cls := "FogNets$Hung", name := "blows", desc := "(IIII)I" } : Jvm.MethodName) ({ cls := "FogNets$Hung", name := "blows", desc := "(IIII)I" } : Jvm.MethodName)) ∈ lw_all := lw_g (lw_at lw_m5 160 rfl) rfl
theorem q1213 : (Jvm.Cond.code ({ cls := "FogNets$Hung", name := "blows", desc := "(IIII)I" } : Jvm.MethodName) prog_9_method_10_code (9 : Nat) (Option.some Jvm.ClassFile.FieldType.int)) ∈ lw_all := lw_g (lw_at lw_m5 161 rfl) rfl
theorem q1214 : (Jvm.Cond.methodLink "FogNets$Hung" (71 : Nat) ({ cls := "FogNets$Ridge", name := "length", desc := "(I)I" } : Jvm.MethodName)) ∈ lw_all := lw_g (lw_at lw_m5 162 rfl) rfl
theorem q1218 : (Jvm.Cond.methodLink "FogNets$Hung" (75 : Nat) ({ cls := "FogNets$Ridge", name := "place", desc := "(III)I" } : Jvm.MethodName)) ∈ lw_all := lw_g (lw_at lw_m5 166 rfl) rfl
theorem q1222 : (Jvm.Cond.methodLink "FogNets$Hung" (79 : Nat) ({ cls := "FogNets$Hung", name := "isMended", desc := "(I)Z" } : Jvm.MethodName)) ∈ lw_all := lw_g (lw_at lw_m5 170 rfl) rfl
theorem q1223 : (Jvm.Cond.methodLink "FogNets$Hung" (82 : Nat) ({ cls := "FogNets$Net", name := "takes", desc := "(IIZ)I" } : Jvm.MethodName)) ∈ lw_all := lw_g (lw_at lw_m5 171 rfl) rfl
theorem q1262 : (Jvm.Cond.instanceMethod ({ cls := "FogNets$Hung", name := "takes", desc := "(LFogNets$Sky;)LFogNets$Hung;" } : Jvm.MethodName)) ∈ lw_all := lw_g (lw_at lw_m5 210 rfl) rfl
theorem q1263 : (Jvm.Cond.selects "FogNets$Hung" ({ cls := "FogNets$Hung", name := "takes", desc := "(LFogNets$Sky;)LFogNets$Hung;" } : Jvm.MethodName) ({ cls := "FogNets$Hung", name := "takes", desc := "(LFogNets$Sky;)LFogNets$Hung;" } : Jvm.MethodName)) ∈ lw_all := lw_g (lw_at lw_m5 211 rfl) rfl
theorem q1264 : (Jvm.Cond.code ({ cls := "FogNets$Hung", name := "takes", desc := "(LFogNets$Sky;)LFogNets$Hung;" } : Jvm.MethodName) prog_9_method_11_code (4 : Nat) (Option.some (Jvm.ClassFile.FieldType.object "FogNets$Hung"))) ∈ lw_all := lw_g (lw_at lw_m5 212 rfl) rfl
theorem q1265 : (Jvm.Cond.methodLink "FogNets$Hung" (94 : Nat) ({ cls := "FogNets$Ridge", name := "lines", desc := "(I)I" } : Jvm.MethodName)) ∈ lw_all := lw_g (lw_at lw_m5 213 rfl) rfl
theorem q1266 : (Jvm.Cond.methodLink "FogNets$Hung" (100 : Nat) ({ cls := "FogNets$Hung", name := "blows", desc := "(IIII)I" } : Jvm.MethodName)) ∈ lw_all := lw_g (lw_at lw_m5 214 rfl) rfl
theorem q1273 : (Jvm.Cond.instanceMethod ({ cls := "FogNets$Hung", name := "yields", desc := "(I)I" } : Jvm.MethodName)) ∈ lw_all := lw_g (lw_at lw_m5 221 rfl) rfl
theorem q1274 : (Jvm.Cond.selects "FogNets$Hung" ({ cls := "FogNets$Hung", name := "yields", desc := "(I)I" } : Jvm.MethodName) ({ cls := "FogNets$Hung", name := "yields", desc := "(I)I" } : Jvm.MethodName)) ∈ lw_all := lw_g (lw_at lw_m5 222 rfl) rfl
theorem q1275 : (Jvm.Cond.code ({ cls := "FogNets$Hung", name := "yields", desc := "(I)I" } : Jvm.MethodName) prog_9_method_12_code (4 : Nat) (Option.some Jvm.ClassFile.FieldType.int)) ∈ lw_all := lw_g (lw_at lw_m5 223 rfl) rfl
theorem q1276 : (Jvm.Cond.methodLink "FogNets$Hung" (104 : Nat) ({ cls := "FogNets$Net", name := "loses", desc := "()Z" } : Jvm.MethodName)) ∈ lw_all := lw_g (lw_at lw_m5 224 rfl) rfl
theorem q1311 : (Jvm.Cond.instanceMethod ({ cls := "FogNets$Hung", name := "isFree", desc := "(I)Z" } : Jvm.MethodName)) ∈ lw_all := lw_g (lw_at lw_m6 19 rfl) rfl
theorem q1312 : (Jvm.Cond.selects "FogNets$Hung" ({ cls := "FogNets$Hung", name := "isFree", desc := "(I)Z" } : Jvm.MethodName) ({ cls := "FogNets$Hung", name := "isFree", desc := "(I)Z" } : Jvm.MethodName)) ∈ lw_all := lw_g (lw_at lw_m6 20 rfl) rfl
theorem q1313 : (Jvm.Cond.code ({ cls := "FogNets$Hung", name := "isFree", desc := "(I)Z" } : Jvm.MethodName) prog_9_method_6_code (2 : Nat) (Option.some Jvm.ClassFile.FieldType.boolean)) ∈ lw_all := lw_g (lw_at lw_m6 21 rfl) rfl
theorem q1314 : (Jvm.Cond.methodLink "FogNets$Hung" (64 : Nat) ({ cls := "FogNets$Ridge", name := "isPlace", desc := "(I)Z" } : Jvm.MethodName)) ∈ lw_all := lw_g (lw_at lw_m6 22 rfl) rfl
theorem q1320 : (Jvm.Cond.instanceMethod ({ cls := "FogNets$Hung", name := "moves", desc := "(II)V" } : Jvm.MethodName)) ∈ lw_all := lw_g (lw_at lw_m6 28 rfl) rfl
theorem q1321 : (Jvm.Cond.selects "FogNets$Hung" ({ cls := "FogNets$Hung", name := "moves", desc := "(II)V" } : Jvm.MethodName) ({ cls := "FogNets$Hung", name := "moves", desc := "(II)V" } : Jvm.MethodName)) ∈ lw_all := lw_g (lw_at lw_m6 29 rfl) rfl
theorem q1322 : (Jvm.Cond.code ({ cls := "FogNets$Hung", name := "moves", desc := "(II)V" } : Jvm.MethodName) prog_9_method_8_code (3 : Nat) (Option.none : Option Jvm.ClassFile.FieldType)) ∈ lw_all := lw_g (lw_at lw_m6 30 rfl) rfl
theorem q1335 : (Jvm.Cond.instanceMethod ({ cls := "FogNets$Hung", name := "takesLast", desc := "()V" } : Jvm.MethodName)) ∈ lw_all := lw_g (lw_at lw_m6 43 rfl) rfl
theorem q1336 : (Jvm.Cond.selects "FogNets$Hung" ({ cls := "FogNets$Hung", name := "takesLast", desc := "()V" } : Jvm.MethodName) ({ cls := "FogNets$Hung", name := "takesLast", desc := "()V" } : Jvm.MethodName)) ∈ lw_all := lw_g (lw_at lw_m6 44 rfl) rfl
theorem q1337 : (Jvm.Cond.code ({ cls := "FogNets$Hung", name := "takesLast", desc := "()V" } : Jvm.MethodName) prog_9_method_4_code (1 : Nat) (Option.none : Option Jvm.ClassFile.FieldType)) ∈ lw_all := lw_g (lw_at lw_m6 45 rfl) rfl
theorem q1381 : (Jvm.Cond.instanceMethod ({ cls := "FogNets$Hung", name := "shows", desc := "(IZ)V" } : Jvm.MethodName)) ∈ lw_all := lw_g (lw_at lw_m6 89 rfl) rfl
theorem q1382 : (Jvm.Cond.selects "FogNets$Hung" ({ cls := "FogNets$Hung", name := "shows", desc := "(IZ)V" } : Jvm.MethodName) ({ cls := "FogNets$Hung", name := "shows", desc := "(IZ)V" } : Jvm.MethodName)) ∈ lw_all := lw_g (lw_at lw_m6 90 rfl) rfl
theorem q1383 : (Jvm.Cond.code ({ cls := "FogNets$Hung", name := "shows", desc := "(IZ)V" } : Jvm.MethodName) prog_9_method_9_code (4 : Nat) (Option.none : Option Jvm.ClassFile.FieldType)) ∈ lw_all := lw_g (lw_at lw_m6 91 rfl) rfl
theorem q2069 : (Jvm.Cond.castable "FogNets$Hung" "java/lang/Object") ∈ lw_tbl := lw_at lw_m9 57 rfl
theorem in_X5 : ∀ w ∈ wsX50, w ∈ lw_all := lw_in wsX50 [366, 368, 370, 372, 374, 376, 378] (by decide +kernel) (by decide +kernel)

/-! FogNets$Tanks -/
set_option maxRecDepth 100000
def RX6 : String := "FogNets$Tanks"
def TX6 : u_T := fun k => match k with
  | 0 => ("FogNets$Tanks", "tank", "[I", true)
  | _ => ("FogNets$Tanks", "lacks", "[I", true)
def tyX6 : Nat → FieldType := fun k => match k with
  | 0 => .array .int
  | _ => .array .int
abbrev wsX60 : List Cond := u_ws RX6 TX6 2
theorem nmX6 : ∀ a, a < 2 → ∀ b, b < 2 → a ≠ b → (TX6 a).2.1 ≠ (TX6 b).2.1 := by decide +kernel
theorem tyX6_ok : ∀ k, k < 2 → parseFieldDescriptor (TX6 k).2.2.1 = some (tyX6 k) := by decide +kernel
abbrev cX6_init : ByteArray := prog_25_method_1_code
def yX6_init : MethodName := ⟨RX6, "<init>", "()V"⟩
def dkwX6_init_0 : List UInt8 := [42, 183, 0, 3, 42, 16, 6, 188, 10, 181, 0, 9, 42, 16, 6, 188, 10, 181, 0, 15, 177]
abbrev dktX6_init_0 : List UInt8 := dkwX6_init_0 ++ []
theorem dksX6_init_0 : cX6_init.data.toList.drop 0 = dktX6_init_0 := by decide +kernel
theorem dX6_init_0 : decode cX6_init 0 = .ok (.aload_n 0, 1) := dk_42 (dk_at dksX6_init_0 0 rfl rfl)
theorem dX6_init_1 : decode cX6_init 1 = .ok (.invokespecial 3, 3) := dk_183 0 3 (dk_at dksX6_init_0 1 rfl rfl)
theorem dX6_init_4 : decode cX6_init 4 = .ok (.aload_n 0, 1) := dk_42 (dk_at dksX6_init_0 4 rfl rfl)
theorem dX6_init_5 : decode cX6_init 5 = .ok (.bipush 6, 2) := dk_16 6 (dk_at dksX6_init_0 5 rfl rfl)
theorem dX6_init_7 : decode cX6_init 7 = .ok (.newarray .int, 2) := dk_188_10 (dk_at dksX6_init_0 7 rfl rfl)
theorem dX6_init_9 : decode cX6_init 9 = .ok (.putfield 9, 3) := dk_181 0 9 (dk_at dksX6_init_0 9 rfl rfl)
theorem dX6_init_12 : decode cX6_init 12 = .ok (.aload_n 0, 1) := dk_42 (dk_at dksX6_init_0 12 rfl rfl)
theorem dX6_init_13 : decode cX6_init 13 = .ok (.bipush 6, 2) := dk_16 6 (dk_at dksX6_init_0 13 rfl rfl)
theorem dX6_init_15 : decode cX6_init 15 = .ok (.newarray .int, 2) := dk_188_10 (dk_at dksX6_init_0 15 rfl rfl)
theorem dX6_init_17 : decode cX6_init 17 = .ok (.putfield 15, 3) := dk_181 0 15 (dk_at dksX6_init_0 17 rfl rfl)
theorem dX6_init_20 : decode cX6_init 20 = .ok (.return_, 1) := dk_177 (dk_at dksX6_init_0 20 rfl rfl)
abbrev cX6_begins : ByteArray := prog_25_method_2_code
def yX6_begins : MethodName := ⟨RX6, "begins", "(LFogNets$Ridge;)V"⟩
def dkwX6_begins_1 : List UInt8 := [180, 0, 15, 28, 3, 79, 132, 2, 1, 167, 255, 240, 177]
abbrev dktX6_begins_1 : List UInt8 := dkwX6_begins_1 ++ []
def dkwX6_begins_0 : List UInt8 := [43, 180, 0, 18, 3, 42, 180, 0, 9, 3, 16, 6, 184, 0, 21, 3, 61, 28, 16, 6, 162, 0, 16, 42]
abbrev dktX6_begins_0 : List UInt8 := dkwX6_begins_0 ++ dktX6_begins_1
theorem dksX6_begins_0 : cX6_begins.data.toList.drop 0 = dktX6_begins_0 := by decide +kernel
theorem dksX6_begins_1 : cX6_begins.data.toList.drop 24 = dktX6_begins_1 := dk_seg dksX6_begins_0 24 rfl rfl
theorem dX6_begins_0 : decode cX6_begins 0 = .ok (.aload_n 1, 1) := dk_43 (dk_at dksX6_begins_0 0 rfl rfl)
theorem dX6_begins_1 : decode cX6_begins 1 = .ok (.getfield 18, 3) := dk_180 0 18 (dk_at dksX6_begins_0 1 rfl rfl)
theorem dX6_begins_4 : decode cX6_begins 4 = .ok (.iconst 0, 1) := dk_3 (dk_at dksX6_begins_0 4 rfl rfl)
theorem dX6_begins_5 : decode cX6_begins 5 = .ok (.aload_n 0, 1) := dk_42 (dk_at dksX6_begins_0 5 rfl rfl)
theorem dX6_begins_6 : decode cX6_begins 6 = .ok (.getfield 9, 3) := dk_180 0 9 (dk_at dksX6_begins_0 6 rfl rfl)
theorem dX6_begins_9 : decode cX6_begins 9 = .ok (.iconst 0, 1) := dk_3 (dk_at dksX6_begins_0 9 rfl rfl)
theorem dX6_begins_10 : decode cX6_begins 10 = .ok (.bipush 6, 2) := dk_16 6 (dk_at dksX6_begins_0 10 rfl rfl)
theorem dX6_begins_12 : decode cX6_begins 12 = .ok (.invokestatic 21, 3) := dk_184 0 21 (dk_at dksX6_begins_0 12 rfl rfl)
theorem dX6_begins_15 : decode cX6_begins 15 = .ok (.iconst 0, 1) := dk_3 (dk_at dksX6_begins_0 15 rfl rfl)
theorem dX6_begins_16 : decode cX6_begins 16 = .ok (.istore_n 2, 1) := dk_61 (dk_at dksX6_begins_0 16 rfl rfl)
theorem dX6_begins_17 : decode cX6_begins 17 = .ok (.iload_n 2, 1) := dk_28 (dk_at dksX6_begins_0 17 rfl rfl)
theorem dX6_begins_18 : decode cX6_begins 18 = .ok (.bipush 6, 2) := dk_16 6 (dk_at dksX6_begins_0 18 rfl rfl)
theorem dX6_begins_20 : decode cX6_begins 20 = .ok (.if_icmp .ge 16, 3) := dk_162 0 16 (dk_at dksX6_begins_0 20 rfl rfl)
theorem dX6_begins_23 : decode cX6_begins 23 = .ok (.aload_n 0, 1) := dk_42 (dk_at dksX6_begins_0 23 rfl rfl)
theorem dX6_begins_24 : decode cX6_begins 24 = .ok (.getfield 15, 3) := dk_180 0 15 (dk_at dksX6_begins_1 0 rfl rfl)
theorem dX6_begins_27 : decode cX6_begins 27 = .ok (.iload_n 2, 1) := dk_28 (dk_at dksX6_begins_1 3 rfl rfl)
theorem dX6_begins_28 : decode cX6_begins 28 = .ok (.iconst 0, 1) := dk_3 (dk_at dksX6_begins_1 4 rfl rfl)
theorem dX6_begins_29 : decode cX6_begins 29 = .ok (.iastore, 1) := dk_79 (dk_at dksX6_begins_1 5 rfl rfl)
theorem dX6_begins_30 : decode cX6_begins 30 = .ok (.iinc 2 1, 3) := dk_132 2 1 (dk_at dksX6_begins_1 6 rfl rfl)
theorem dX6_begins_33 : decode cX6_begins 33 = .ok (.goto (-16), 3) := dk_167 255 240 (dk_at dksX6_begins_1 9 rfl rfl)
theorem dX6_begins_36 : decode cX6_begins 36 = .ok (.return_, 1) := dk_177 (dk_at dksX6_begins_1 12 rfl rfl)
abbrev cX6_passes : ByteArray := prog_25_method_4_code
def yX6_passes : MethodName := ⟨RX6, "passes", "(LFogNets$Hung;)V"⟩
def dkwX6_passes_3 : List UInt8 := [92, 46, 43, 180, 0, 27, 180, 0, 51, 28, 46, 29, 100, 96, 79, 132, 2, 1, 167, 255, 168, 177]
abbrev dktX6_passes_3 : List UInt8 := dkwX6_passes_3 ++ []
def dkwX6_passes_2 : List UInt8 := [180, 0, 51, 28, 46, 184, 0, 54, 62, 42, 180, 0, 9, 28, 92, 46, 29, 100, 79, 42, 180, 0, 15, 28]
abbrev dktX6_passes_2 : List UInt8 := dkwX6_passes_2 ++ dktX6_passes_3
def dkwX6_passes_1 : List UInt8 := [28, 182, 0, 43, 43, 180, 0, 27, 180, 0, 47, 96, 96, 79, 42, 180, 0, 9, 28, 46, 43, 180, 0, 27]
abbrev dktX6_passes_1 : List UInt8 := dkwX6_passes_1 ++ dktX6_passes_2
def dkwX6_passes_0 : List UInt8 := [3, 61, 28, 43, 180, 0, 27, 180, 0, 33, 182, 0, 37, 162, 0, 80, 42, 180, 0, 9, 28, 92, 46, 43]
abbrev dktX6_passes_0 : List UInt8 := dkwX6_passes_0 ++ dktX6_passes_1
theorem dksX6_passes_0 : cX6_passes.data.toList.drop 0 = dktX6_passes_0 := by decide +kernel
theorem dksX6_passes_1 : cX6_passes.data.toList.drop 24 = dktX6_passes_1 := dk_seg dksX6_passes_0 24 rfl rfl
theorem dksX6_passes_2 : cX6_passes.data.toList.drop 48 = dktX6_passes_2 := dk_seg dksX6_passes_1 24 rfl rfl
theorem dksX6_passes_3 : cX6_passes.data.toList.drop 72 = dktX6_passes_3 := dk_seg dksX6_passes_2 24 rfl rfl
theorem dX6_passes_0 : decode cX6_passes 0 = .ok (.iconst 0, 1) := dk_3 (dk_at dksX6_passes_0 0 rfl rfl)
theorem dX6_passes_1 : decode cX6_passes 1 = .ok (.istore_n 2, 1) := dk_61 (dk_at dksX6_passes_0 1 rfl rfl)
theorem dX6_passes_2 : decode cX6_passes 2 = .ok (.iload_n 2, 1) := dk_28 (dk_at dksX6_passes_0 2 rfl rfl)
theorem dX6_passes_3 : decode cX6_passes 3 = .ok (.aload_n 1, 1) := dk_43 (dk_at dksX6_passes_0 3 rfl rfl)
theorem dX6_passes_4 : decode cX6_passes 4 = .ok (.getfield 27, 3) := dk_180 0 27 (dk_at dksX6_passes_0 4 rfl rfl)
theorem dX6_passes_7 : decode cX6_passes 7 = .ok (.getfield 33, 3) := dk_180 0 33 (dk_at dksX6_passes_0 7 rfl rfl)
theorem dX6_passes_10 : decode cX6_passes 10 = .ok (.invokevirtual 37, 3) := dk_182 0 37 (dk_at dksX6_passes_0 10 rfl rfl)
theorem dX6_passes_13 : decode cX6_passes 13 = .ok (.if_icmp .ge 80, 3) := dk_162 0 80 (dk_at dksX6_passes_0 13 rfl rfl)
theorem dX6_passes_16 : decode cX6_passes 16 = .ok (.aload_n 0, 1) := dk_42 (dk_at dksX6_passes_0 16 rfl rfl)
theorem dX6_passes_17 : decode cX6_passes 17 = .ok (.getfield 9, 3) := dk_180 0 9 (dk_at dksX6_passes_0 17 rfl rfl)
theorem dX6_passes_20 : decode cX6_passes 20 = .ok (.iload_n 2, 1) := dk_28 (dk_at dksX6_passes_0 20 rfl rfl)
theorem dX6_passes_21 : decode cX6_passes 21 = .ok (.dup2, 1) := dk_92 (dk_at dksX6_passes_0 21 rfl rfl)
theorem dX6_passes_22 : decode cX6_passes 22 = .ok (.iaload, 1) := dk_46 (dk_at dksX6_passes_0 22 rfl rfl)
theorem dX6_passes_23 : decode cX6_passes 23 = .ok (.aload_n 1, 1) := dk_43 (dk_at dksX6_passes_0 23 rfl rfl)
theorem dX6_passes_24 : decode cX6_passes 24 = .ok (.iload_n 2, 1) := dk_28 (dk_at dksX6_passes_1 0 rfl rfl)
theorem dX6_passes_25 : decode cX6_passes 25 = .ok (.invokevirtual 43, 3) := dk_182 0 43 (dk_at dksX6_passes_1 1 rfl rfl)
theorem dX6_passes_28 : decode cX6_passes 28 = .ok (.aload_n 1, 1) := dk_43 (dk_at dksX6_passes_1 4 rfl rfl)
theorem dX6_passes_29 : decode cX6_passes 29 = .ok (.getfield 27, 3) := dk_180 0 27 (dk_at dksX6_passes_1 5 rfl rfl)
theorem dX6_passes_32 : decode cX6_passes 32 = .ok (.getfield 47, 3) := dk_180 0 47 (dk_at dksX6_passes_1 8 rfl rfl)
theorem dX6_passes_35 : decode cX6_passes 35 = .ok (.iadd, 1) := dk_96 (dk_at dksX6_passes_1 11 rfl rfl)
theorem dX6_passes_36 : decode cX6_passes 36 = .ok (.iadd, 1) := dk_96 (dk_at dksX6_passes_1 12 rfl rfl)
theorem dX6_passes_37 : decode cX6_passes 37 = .ok (.iastore, 1) := dk_79 (dk_at dksX6_passes_1 13 rfl rfl)
theorem dX6_passes_38 : decode cX6_passes 38 = .ok (.aload_n 0, 1) := dk_42 (dk_at dksX6_passes_1 14 rfl rfl)
theorem dX6_passes_39 : decode cX6_passes 39 = .ok (.getfield 9, 3) := dk_180 0 9 (dk_at dksX6_passes_1 15 rfl rfl)
theorem dX6_passes_42 : decode cX6_passes 42 = .ok (.iload_n 2, 1) := dk_28 (dk_at dksX6_passes_1 18 rfl rfl)
theorem dX6_passes_43 : decode cX6_passes 43 = .ok (.iaload, 1) := dk_46 (dk_at dksX6_passes_1 19 rfl rfl)
theorem dX6_passes_44 : decode cX6_passes 44 = .ok (.aload_n 1, 1) := dk_43 (dk_at dksX6_passes_1 20 rfl rfl)
theorem dX6_passes_45 : decode cX6_passes 45 = .ok (.getfield 27, 3) := dk_180 0 27 (dk_at dksX6_passes_1 21 rfl rfl)
theorem dX6_passes_48 : decode cX6_passes 48 = .ok (.getfield 51, 3) := dk_180 0 51 (dk_at dksX6_passes_2 0 rfl rfl)
theorem dX6_passes_51 : decode cX6_passes 51 = .ok (.iload_n 2, 1) := dk_28 (dk_at dksX6_passes_2 3 rfl rfl)
theorem dX6_passes_52 : decode cX6_passes 52 = .ok (.iaload, 1) := dk_46 (dk_at dksX6_passes_2 4 rfl rfl)
theorem dX6_passes_53 : decode cX6_passes 53 = .ok (.invokestatic 54, 3) := dk_184 0 54 (dk_at dksX6_passes_2 5 rfl rfl)
theorem dX6_passes_56 : decode cX6_passes 56 = .ok (.istore_n 3, 1) := dk_62 (dk_at dksX6_passes_2 8 rfl rfl)
theorem dX6_passes_57 : decode cX6_passes 57 = .ok (.aload_n 0, 1) := dk_42 (dk_at dksX6_passes_2 9 rfl rfl)
theorem dX6_passes_58 : decode cX6_passes 58 = .ok (.getfield 9, 3) := dk_180 0 9 (dk_at dksX6_passes_2 10 rfl rfl)
theorem dX6_passes_61 : decode cX6_passes 61 = .ok (.iload_n 2, 1) := dk_28 (dk_at dksX6_passes_2 13 rfl rfl)
theorem dX6_passes_62 : decode cX6_passes 62 = .ok (.dup2, 1) := dk_92 (dk_at dksX6_passes_2 14 rfl rfl)
theorem dX6_passes_63 : decode cX6_passes 63 = .ok (.iaload, 1) := dk_46 (dk_at dksX6_passes_2 15 rfl rfl)
theorem dX6_passes_64 : decode cX6_passes 64 = .ok (.iload_n 3, 1) := dk_29 (dk_at dksX6_passes_2 16 rfl rfl)
theorem dX6_passes_65 : decode cX6_passes 65 = .ok (.isub, 1) := dk_100 (dk_at dksX6_passes_2 17 rfl rfl)
theorem dX6_passes_66 : decode cX6_passes 66 = .ok (.iastore, 1) := dk_79 (dk_at dksX6_passes_2 18 rfl rfl)
theorem dX6_passes_67 : decode cX6_passes 67 = .ok (.aload_n 0, 1) := dk_42 (dk_at dksX6_passes_2 19 rfl rfl)
theorem dX6_passes_68 : decode cX6_passes 68 = .ok (.getfield 15, 3) := dk_180 0 15 (dk_at dksX6_passes_2 20 rfl rfl)
theorem dX6_passes_71 : decode cX6_passes 71 = .ok (.iload_n 2, 1) := dk_28 (dk_at dksX6_passes_2 23 rfl rfl)
theorem dX6_passes_72 : decode cX6_passes 72 = .ok (.dup2, 1) := dk_92 (dk_at dksX6_passes_3 0 rfl rfl)
theorem dX6_passes_73 : decode cX6_passes 73 = .ok (.iaload, 1) := dk_46 (dk_at dksX6_passes_3 1 rfl rfl)
theorem dX6_passes_74 : decode cX6_passes 74 = .ok (.aload_n 1, 1) := dk_43 (dk_at dksX6_passes_3 2 rfl rfl)
theorem dX6_passes_75 : decode cX6_passes 75 = .ok (.getfield 27, 3) := dk_180 0 27 (dk_at dksX6_passes_3 3 rfl rfl)
theorem dX6_passes_78 : decode cX6_passes 78 = .ok (.getfield 51, 3) := dk_180 0 51 (dk_at dksX6_passes_3 6 rfl rfl)
theorem dX6_passes_81 : decode cX6_passes 81 = .ok (.iload_n 2, 1) := dk_28 (dk_at dksX6_passes_3 9 rfl rfl)
theorem dX6_passes_82 : decode cX6_passes 82 = .ok (.iaload, 1) := dk_46 (dk_at dksX6_passes_3 10 rfl rfl)
theorem dX6_passes_83 : decode cX6_passes 83 = .ok (.iload_n 3, 1) := dk_29 (dk_at dksX6_passes_3 11 rfl rfl)
theorem dX6_passes_84 : decode cX6_passes 84 = .ok (.isub, 1) := dk_100 (dk_at dksX6_passes_3 12 rfl rfl)
theorem dX6_passes_85 : decode cX6_passes 85 = .ok (.iadd, 1) := dk_96 (dk_at dksX6_passes_3 13 rfl rfl)
theorem dX6_passes_86 : decode cX6_passes 86 = .ok (.iastore, 1) := dk_79 (dk_at dksX6_passes_3 14 rfl rfl)
theorem dX6_passes_87 : decode cX6_passes 87 = .ok (.iinc 2 1, 3) := dk_132 2 1 (dk_at dksX6_passes_3 15 rfl rfl)
theorem dX6_passes_90 : decode cX6_passes 90 = .ok (.goto (-88), 3) := dk_167 255 168 (dk_at dksX6_passes_3 18 rfl rfl)
theorem dX6_passes_93 : decode cX6_passes 93 = .ok (.return_, 1) := dk_177 (dk_at dksX6_passes_3 21 rfl rfl)
abbrev cX6_copies : ByteArray := prog_25_method_3_code
def yX6_copies : MethodName := ⟨RX6, "copies", "(LFogNets$Tanks;)V"⟩
def dkwX6_copies_1 : List UInt8 := [3, 16, 6, 184, 0, 21, 177]
abbrev dktX6_copies_1 : List UInt8 := dkwX6_copies_1 ++ []
def dkwX6_copies_0 : List UInt8 := [43, 180, 0, 9, 3, 42, 180, 0, 9, 3, 16, 6, 184, 0, 21, 43, 180, 0, 15, 3, 42, 180, 0, 15]
abbrev dktX6_copies_0 : List UInt8 := dkwX6_copies_0 ++ dktX6_copies_1
theorem dksX6_copies_0 : cX6_copies.data.toList.drop 0 = dktX6_copies_0 := by decide +kernel
theorem dksX6_copies_1 : cX6_copies.data.toList.drop 24 = dktX6_copies_1 := dk_seg dksX6_copies_0 24 rfl rfl
theorem dX6_copies_0 : decode cX6_copies 0 = .ok (.aload_n 1, 1) := dk_43 (dk_at dksX6_copies_0 0 rfl rfl)
theorem dX6_copies_1 : decode cX6_copies 1 = .ok (.getfield 9, 3) := dk_180 0 9 (dk_at dksX6_copies_0 1 rfl rfl)
theorem dX6_copies_4 : decode cX6_copies 4 = .ok (.iconst 0, 1) := dk_3 (dk_at dksX6_copies_0 4 rfl rfl)
theorem dX6_copies_5 : decode cX6_copies 5 = .ok (.aload_n 0, 1) := dk_42 (dk_at dksX6_copies_0 5 rfl rfl)
theorem dX6_copies_6 : decode cX6_copies 6 = .ok (.getfield 9, 3) := dk_180 0 9 (dk_at dksX6_copies_0 6 rfl rfl)
theorem dX6_copies_9 : decode cX6_copies 9 = .ok (.iconst 0, 1) := dk_3 (dk_at dksX6_copies_0 9 rfl rfl)
theorem dX6_copies_10 : decode cX6_copies 10 = .ok (.bipush 6, 2) := dk_16 6 (dk_at dksX6_copies_0 10 rfl rfl)
theorem dX6_copies_12 : decode cX6_copies 12 = .ok (.invokestatic 21, 3) := dk_184 0 21 (dk_at dksX6_copies_0 12 rfl rfl)
theorem dX6_copies_15 : decode cX6_copies 15 = .ok (.aload_n 1, 1) := dk_43 (dk_at dksX6_copies_0 15 rfl rfl)
theorem dX6_copies_16 : decode cX6_copies 16 = .ok (.getfield 15, 3) := dk_180 0 15 (dk_at dksX6_copies_0 16 rfl rfl)
theorem dX6_copies_19 : decode cX6_copies 19 = .ok (.iconst 0, 1) := dk_3 (dk_at dksX6_copies_0 19 rfl rfl)
theorem dX6_copies_20 : decode cX6_copies 20 = .ok (.aload_n 0, 1) := dk_42 (dk_at dksX6_copies_0 20 rfl rfl)
theorem dX6_copies_21 : decode cX6_copies 21 = .ok (.getfield 15, 3) := dk_180 0 15 (dk_at dksX6_copies_0 21 rfl rfl)
theorem dX6_copies_24 : decode cX6_copies 24 = .ok (.iconst 0, 1) := dk_3 (dk_at dksX6_copies_1 0 rfl rfl)
theorem dX6_copies_25 : decode cX6_copies 25 = .ok (.bipush 6, 2) := dk_16 6 (dk_at dksX6_copies_1 1 rfl rfl)
theorem dX6_copies_27 : decode cX6_copies 27 = .ok (.invokestatic 21, 3) := dk_184 0 21 (dk_at dksX6_copies_1 3 rfl rfl)
theorem dX6_copies_30 : decode cX6_copies 30 = .ok (.return_, 1) := dk_177 (dk_at dksX6_copies_1 6 rfl rfl)
theorem q101 : (Jvm.Cond.initialized "FogNets$Tanks") ∈ lw_all := lw_g (lw_at lw_m1 9 rfl) rfl
theorem q291 : (Jvm.Cond.fieldLink "FogNets$Tanks" (47 : Nat) "FogNets$Ridge" "dew" "I") ∈ lw_all := lw_g (lw_at lw_m1 199 rfl) rfl
theorem q300 : (Jvm.Cond.fieldLink "FogNets$Tanks" (33 : Nat) "FogNets$Ridge" "names" "Ljava/util/ArrayList;") ∈ lw_all := lw_g (lw_at lw_m1 208 rfl) rfl
theorem q304 : (Jvm.Cond.fieldLink "FogNets$Tanks" (51 : Nat) "FogNets$Ridge" "thirst" "[I") ∈ lw_all := lw_g (lw_at lw_m1 212 rfl) rfl
theorem q308 : (Jvm.Cond.fieldLink "FogNets$Tanks" (18 : Nat) "FogNets$Ridge" "tank" "[I") ∈ lw_all := lw_g (lw_at lw_m1 216 rfl) rfl
theorem q353 : (Jvm.Cond.fieldLink "FogNets$Tanks" (27 : Nat) "FogNets$Hung" "ridge" "LFogNets$Ridge;") ∈ lw_all := lw_g (lw_at lw_m2 21 rfl) rfl
theorem q382 : (Jvm.Cond.instantiable "FogNets$Tanks" (2 : Nat)) ∈ lw_all := lw_g (lw_at lw_m2 50 rfl) rfl
theorem q384 : (Jvm.Cond.instanceMethod ({ cls := "FogNets$Tanks", name := "<init>", desc := "()V" } : Jvm.MethodName)) ∈ lw_all := lw_g (lw_at lw_m2 52 rfl) rfl
theorem q385 : (Jvm.Cond.code ({ cls := "FogNets$Tanks", name := "<init>", desc := "()V" } : Jvm.MethodName) prog_25_method_1_code (1 : Nat) (Option.none : Option Jvm.ClassFile.FieldType)) ∈ lw_all := lw_g (lw_at lw_m2 53 rfl) rfl
theorem q386 : (Jvm.Cond.methodLink "FogNets$Tanks" (3 : Nat) ({ cls := "java/lang/Object", name := "<init>", desc := "()V" } : Jvm.MethodName)) ∈ lw_all := lw_g (lw_at lw_m2 54 rfl) rfl
theorem q387 : (Jvm.Cond.fieldLink "FogNets$Tanks" (9 : Nat) "FogNets$Tanks" "tank" "[I") ∈ lw_all := lw_g (lw_at lw_m2 55 rfl) rfl
theorem q389 : (Jvm.Cond.fieldLink "FogNets$Tanks" (15 : Nat) "FogNets$Tanks" "lacks" "[I") ∈ lw_all := lw_g (lw_at lw_m2 57 rfl) rfl
theorem q391 : (Jvm.Cond.laysFinal "FogNets$Tanks" "FogNets$Tanks" "tank" "[I") ∈ lw_all := lw_g (lw_at lw_m2 59 rfl) rfl
theorem q392 : (Jvm.Cond.soleField "FogNets$Tanks" "tank") ∈ lw_all := lw_g (lw_at lw_m2 60 rfl) rfl
theorem q393 : (Jvm.Cond.laysFinal "FogNets$Tanks" "FogNets$Tanks" "lacks" "[I") ∈ lw_all := lw_g (lw_at lw_m2 61 rfl) rfl
theorem q394 : (Jvm.Cond.soleField "FogNets$Tanks" "lacks") ∈ lw_all := lw_g (lw_at lw_m2 62 rfl) rfl
theorem q395 : (Jvm.Cond.superclass "FogNets$Tanks" "java/lang/Object") ∈ lw_all := lw_g (lw_at lw_m2 63 rfl) rfl
theorem q882 : (Jvm.Cond.selects "FogNets$Tanks" ({ cls := "java/lang/Object", name := "getClass", desc := "()Ljava/lang/Class;" } : Jvm.MethodName) ({ cls := "java/lang/Object", name := "getClass", desc := "()Ljava/lang/Class;" } : Jvm.MethodName)) ∈ lw_all := lw_g (lw_at lw_m4 70 rfl) rfl
theorem q1070 : (Jvm.Cond.instanceMethod ({ cls := "FogNets$Tanks", name := "begins", desc := "(LFogNets$Ridge;)V" } : Jvm.MethodName)) ∈ lw_all := lw_g (lw_at lw_m5 18 rfl) rfl
theorem q1071 : (Jvm.Cond.selects "FogNets$Tanks" ({ cls := "FogNets$Tanks", name := "begins", desc := "(LFogNets$Ridge;)V" } : Jvm.MethodName) ({ cls := "FogNets$Tanks", name := "begins", desc := "(LFogNets$Ridge;)V" } : Jvm.MethodName)) ∈ lw_all := lw_g (lw_at lw_m5 19 rfl) rfl
theorem q1072 : (Jvm.Cond.code ({ cls := "FogNets$Tanks", name := "begins", desc := "(LFogNets$Ridge;)V" } : Jvm.MethodName) prog_25_method_2_code (3 : Nat) (Option.none : Option Jvm.ClassFile.FieldType)) ∈ lw_all := lw_g (lw_at lw_m5 20 rfl) rfl
theorem q1073 : (Jvm.Cond.methodLink "FogNets$Tanks" (21 : Nat) ({ cls := "java/lang/System", name := "arraycopy", desc := "(Ljava/lang/Object;ILjava/lang/Object;II)V" } : Jvm.MethodName)) ∈ lw_all := lw_g (lw_at lw_m5 21 rfl) rfl
theorem q1268 : (Jvm.Cond.instanceMethod ({ cls := "FogNets$Tanks", name := "passes", desc := "(LFogNets$Hung;)V" } : Jvm.MethodName)) ∈ lw_all := lw_g (lw_at lw_m5 216 rfl) rfl
theorem q1269 : (Jvm.Cond.selects "FogNets$Tanks" ({ cls := "FogNets$Tanks", name := "passes", desc := "(LFogNets$Hung;)V" } : Jvm.MethodName) ({ cls := "FogNets$Tanks", name := "passes", desc := "(LFogNets$Hung;)V" } : Jvm.MethodName)) ∈ lw_all := lw_g (lw_at lw_m5 217 rfl) rfl
theorem q1270 : (Jvm.Cond.code ({ cls := "FogNets$Tanks", name := "passes", desc := "(LFogNets$Hung;)V" } : Jvm.MethodName) prog_25_method_4_code (4 : Nat) (Option.none : Option Jvm.ClassFile.FieldType)) ∈ lw_all := lw_g (lw_at lw_m5 218 rfl) rfl
theorem q1271 : (Jvm.Cond.methodLink "FogNets$Tanks" (37 : Nat) ({ cls := "java/util/ArrayList", name := "size", desc := "()I" } : Jvm.MethodName)) ∈ lw_all := lw_g (lw_at lw_m5 219 rfl) rfl
theorem q1272 : (Jvm.Cond.methodLink "FogNets$Tanks" (43 : Nat) ({ cls := "FogNets$Hung", name := "yields", desc := "(I)I" } : Jvm.MethodName)) ∈ lw_all := lw_g (lw_at lw_m5 220 rfl) rfl
theorem q1288 : (Jvm.Cond.methodLink "FogNets$Tanks" (54 : Nat) ({ cls := "java/lang/Math", name := "min", desc := "(II)I" } : Jvm.MethodName)) ∈ lw_all := lw_g (lw_at lw_m5 236 rfl) rfl
theorem q1395 : (Jvm.Cond.instanceMethod ({ cls := "FogNets$Tanks", name := "copies", desc := "(LFogNets$Tanks;)V" } : Jvm.MethodName)) ∈ lw_all := lw_g (lw_at lw_m6 103 rfl) rfl
theorem q1396 : (Jvm.Cond.selects "FogNets$Tanks" ({ cls := "FogNets$Tanks", name := "copies", desc := "(LFogNets$Tanks;)V" } : Jvm.MethodName) ({ cls := "FogNets$Tanks", name := "copies", desc := "(LFogNets$Tanks;)V" } : Jvm.MethodName)) ∈ lw_all := lw_g (lw_at lw_m6 104 rfl) rfl
theorem q1397 : (Jvm.Cond.code ({ cls := "FogNets$Tanks", name := "copies", desc := "(LFogNets$Tanks;)V" } : Jvm.MethodName) prog_25_method_3_code (2 : Nat) (Option.none : Option Jvm.ClassFile.FieldType)) ∈ lw_all := lw_g (lw_at lw_m6 105 rfl) rfl
theorem q2070 : (Jvm.Cond.castable "FogNets$Tanks" "java/lang/Object") ∈ lw_tbl := lw_at lw_m9 58 rfl
theorem in_X6 : ∀ w ∈ wsX60, w ∈ lw_all := lw_in wsX60 [391, 393] (by decide +kernel) (by decide +kernel)

/-! FogNets$Sky -/
set_option maxRecDepth 100000
def RX7 : String := "FogNets$Sky"
def TX7 : u_T := fun k => match k with
  | 0 => ("FogNets$Sky", "way", "[I", true)
  | _ => ("FogNets$Sky", "bank", "[I", true)
def tyX7 : Nat → FieldType := fun k => match k with
  | 0 => .array .int
  | _ => .array .int
abbrev wsX70 : List Cond := u_ws RX7 TX7 2
theorem nmX7 : ∀ a, a < 2 → ∀ b, b < 2 → a ≠ b → (TX7 a).2.1 ≠ (TX7 b).2.1 := by decide +kernel
theorem tyX7_ok : ∀ k, k < 2 → parseFieldDescriptor (TX7 k).2.2.1 = some (tyX7 k) := by decide +kernel
abbrev cX7_init : ByteArray := prog_23_method_1_code
def yX7_init : MethodName := ⟨RX7, "<init>", "()V"⟩
def dkwX7_init_0 : List UInt8 := [42, 183, 0, 3, 42, 16, 12, 188, 10, 181, 0, 9, 42, 16, 96, 188, 10, 181, 0, 15, 177]
abbrev dktX7_init_0 : List UInt8 := dkwX7_init_0 ++ []
theorem dksX7_init_0 : cX7_init.data.toList.drop 0 = dktX7_init_0 := by decide +kernel
theorem dX7_init_0 : decode cX7_init 0 = .ok (.aload_n 0, 1) := dk_42 (dk_at dksX7_init_0 0 rfl rfl)
theorem dX7_init_1 : decode cX7_init 1 = .ok (.invokespecial 3, 3) := dk_183 0 3 (dk_at dksX7_init_0 1 rfl rfl)
theorem dX7_init_4 : decode cX7_init 4 = .ok (.aload_n 0, 1) := dk_42 (dk_at dksX7_init_0 4 rfl rfl)
theorem dX7_init_5 : decode cX7_init 5 = .ok (.bipush 12, 2) := dk_16 12 (dk_at dksX7_init_0 5 rfl rfl)
theorem dX7_init_7 : decode cX7_init 7 = .ok (.newarray .int, 2) := dk_188_10 (dk_at dksX7_init_0 7 rfl rfl)
theorem dX7_init_9 : decode cX7_init 9 = .ok (.putfield 9, 3) := dk_181 0 9 (dk_at dksX7_init_0 9 rfl rfl)
theorem dX7_init_12 : decode cX7_init 12 = .ok (.aload_n 0, 1) := dk_42 (dk_at dksX7_init_0 12 rfl rfl)
theorem dX7_init_13 : decode cX7_init 13 = .ok (.bipush 96, 2) := dk_16 96 (dk_at dksX7_init_0 13 rfl rfl)
theorem dX7_init_15 : decode cX7_init 15 = .ok (.newarray .int, 2) := dk_188_10 (dk_at dksX7_init_0 15 rfl rfl)
theorem dX7_init_17 : decode cX7_init 17 = .ok (.putfield 15, 3) := dk_181 0 15 (dk_at dksX7_init_0 17 rfl rfl)
theorem dX7_init_20 : decode cX7_init 20 = .ok (.return_, 1) := dk_177 (dk_at dksX7_init_0 20 rfl rfl)
abbrev cX7_finds : ByteArray := prog_23_method_2_code
def yX7_finds : MethodName := ⟨RX7, "finds", "(LFogNets$Ridge;I)LFogNets$Sky;"⟩
def dkwX7_finds_1 : List UInt8 := [132, 3, 1, 167, 255, 232, 42, 176]
abbrev dktX7_finds_1 : List UInt8 := dkwX7_finds_1 ++ []
def dkwX7_finds_0 : List UInt8 := [3, 62, 29, 43, 180, 0, 18, 162, 0, 22, 42, 43, 28, 29, 43, 28, 29, 182, 0, 24, 182, 0, 28]
abbrev dktX7_finds_0 : List UInt8 := dkwX7_finds_0 ++ dktX7_finds_1
theorem dksX7_finds_0 : cX7_finds.data.toList.drop 0 = dktX7_finds_0 := by decide +kernel
theorem dksX7_finds_1 : cX7_finds.data.toList.drop 23 = dktX7_finds_1 := dk_seg dksX7_finds_0 23 rfl rfl
theorem dX7_finds_0 : decode cX7_finds 0 = .ok (.iconst 0, 1) := dk_3 (dk_at dksX7_finds_0 0 rfl rfl)
theorem dX7_finds_1 : decode cX7_finds 1 = .ok (.istore_n 3, 1) := dk_62 (dk_at dksX7_finds_0 1 rfl rfl)
theorem dX7_finds_2 : decode cX7_finds 2 = .ok (.iload_n 3, 1) := dk_29 (dk_at dksX7_finds_0 2 rfl rfl)
theorem dX7_finds_3 : decode cX7_finds 3 = .ok (.aload_n 1, 1) := dk_43 (dk_at dksX7_finds_0 3 rfl rfl)
theorem dX7_finds_4 : decode cX7_finds 4 = .ok (.getfield 18, 3) := dk_180 0 18 (dk_at dksX7_finds_0 4 rfl rfl)
theorem dX7_finds_7 : decode cX7_finds 7 = .ok (.if_icmp .ge 22, 3) := dk_162 0 22 (dk_at dksX7_finds_0 7 rfl rfl)
theorem dX7_finds_10 : decode cX7_finds 10 = .ok (.aload_n 0, 1) := dk_42 (dk_at dksX7_finds_0 10 rfl rfl)
theorem dX7_finds_11 : decode cX7_finds 11 = .ok (.aload_n 1, 1) := dk_43 (dk_at dksX7_finds_0 11 rfl rfl)
theorem dX7_finds_12 : decode cX7_finds 12 = .ok (.iload_n 2, 1) := dk_28 (dk_at dksX7_finds_0 12 rfl rfl)
theorem dX7_finds_13 : decode cX7_finds 13 = .ok (.iload_n 3, 1) := dk_29 (dk_at dksX7_finds_0 13 rfl rfl)
theorem dX7_finds_14 : decode cX7_finds 14 = .ok (.aload_n 1, 1) := dk_43 (dk_at dksX7_finds_0 14 rfl rfl)
theorem dX7_finds_15 : decode cX7_finds 15 = .ok (.iload_n 2, 1) := dk_28 (dk_at dksX7_finds_0 15 rfl rfl)
theorem dX7_finds_16 : decode cX7_finds 16 = .ok (.iload_n 3, 1) := dk_29 (dk_at dksX7_finds_0 16 rfl rfl)
theorem dX7_finds_17 : decode cX7_finds 17 = .ok (.invokevirtual 24, 3) := dk_182 0 24 (dk_at dksX7_finds_0 17 rfl rfl)
theorem dX7_finds_20 : decode cX7_finds 20 = .ok (.invokevirtual 28, 3) := dk_182 0 28 (dk_at dksX7_finds_0 20 rfl rfl)
theorem dX7_finds_23 : decode cX7_finds 23 = .ok (.iinc 3 1, 3) := dk_132 3 1 (dk_at dksX7_finds_1 0 rfl rfl)
theorem dX7_finds_26 : decode cX7_finds 26 = .ok (.goto (-24), 3) := dk_167 255 232 (dk_at dksX7_finds_1 3 rfl rfl)
theorem dX7_finds_29 : decode cX7_finds 29 = .ok (.aload_n 0, 1) := dk_42 (dk_at dksX7_finds_1 6 rfl rfl)
theorem dX7_finds_30 : decode cX7_finds 30 = .ok (.areturn, 1) := dk_176 (dk_at dksX7_finds_1 7 rfl rfl)
abbrev cX7_turns : ByteArray := prog_23_method_3_code
def yX7_turns : MethodName := ⟨RX7, "turns", "(LFogNets$Ridge;III)V"⟩
def dkwX7_turns_2 : List UInt8 := [167, 255, 220, 177]
abbrev dktX7_turns_2 : List UInt8 := dkwX7_turns_2 ++ []
def dkwX7_turns_1 : List UInt8 := [180, 0, 15, 16, 8, 29, 104, 21, 5, 96, 43, 28, 29, 21, 5, 21, 4, 182, 0, 36, 79, 132, 5, 1]
abbrev dktX7_turns_1 : List UInt8 := dkwX7_turns_1 ++ dktX7_turns_2
def dkwX7_turns_0 : List UInt8 := [42, 180, 0, 9, 29, 21, 4, 79, 3, 54, 5, 21, 5, 43, 21, 4, 182, 0, 32, 162, 0, 31, 42]
abbrev dktX7_turns_0 : List UInt8 := dkwX7_turns_0 ++ dktX7_turns_1
theorem dksX7_turns_0 : cX7_turns.data.toList.drop 0 = dktX7_turns_0 := by decide +kernel
theorem dksX7_turns_1 : cX7_turns.data.toList.drop 23 = dktX7_turns_1 := dk_seg dksX7_turns_0 23 rfl rfl
theorem dksX7_turns_2 : cX7_turns.data.toList.drop 47 = dktX7_turns_2 := dk_seg dksX7_turns_1 24 rfl rfl
theorem dX7_turns_0 : decode cX7_turns 0 = .ok (.aload_n 0, 1) := dk_42 (dk_at dksX7_turns_0 0 rfl rfl)
theorem dX7_turns_1 : decode cX7_turns 1 = .ok (.getfield 9, 3) := dk_180 0 9 (dk_at dksX7_turns_0 1 rfl rfl)
theorem dX7_turns_4 : decode cX7_turns 4 = .ok (.iload_n 3, 1) := dk_29 (dk_at dksX7_turns_0 4 rfl rfl)
theorem dX7_turns_5 : decode cX7_turns 5 = .ok (.iload 4, 2) := dk_21 4 (dk_at dksX7_turns_0 5 rfl rfl)
theorem dX7_turns_7 : decode cX7_turns 7 = .ok (.iastore, 1) := dk_79 (dk_at dksX7_turns_0 7 rfl rfl)
theorem dX7_turns_8 : decode cX7_turns 8 = .ok (.iconst 0, 1) := dk_3 (dk_at dksX7_turns_0 8 rfl rfl)
theorem dX7_turns_9 : decode cX7_turns 9 = .ok (.istore 5, 2) := dk_54 5 (dk_at dksX7_turns_0 9 rfl rfl)
theorem dX7_turns_11 : decode cX7_turns 11 = .ok (.iload 5, 2) := dk_21 5 (dk_at dksX7_turns_0 11 rfl rfl)
theorem dX7_turns_13 : decode cX7_turns 13 = .ok (.aload_n 1, 1) := dk_43 (dk_at dksX7_turns_0 13 rfl rfl)
theorem dX7_turns_14 : decode cX7_turns 14 = .ok (.iload 4, 2) := dk_21 4 (dk_at dksX7_turns_0 14 rfl rfl)
theorem dX7_turns_16 : decode cX7_turns 16 = .ok (.invokevirtual 32, 3) := dk_182 0 32 (dk_at dksX7_turns_0 16 rfl rfl)
theorem dX7_turns_19 : decode cX7_turns 19 = .ok (.if_icmp .ge 31, 3) := dk_162 0 31 (dk_at dksX7_turns_0 19 rfl rfl)
theorem dX7_turns_22 : decode cX7_turns 22 = .ok (.aload_n 0, 1) := dk_42 (dk_at dksX7_turns_0 22 rfl rfl)
theorem dX7_turns_23 : decode cX7_turns 23 = .ok (.getfield 15, 3) := dk_180 0 15 (dk_at dksX7_turns_1 0 rfl rfl)
theorem dX7_turns_26 : decode cX7_turns 26 = .ok (.bipush 8, 2) := dk_16 8 (dk_at dksX7_turns_1 3 rfl rfl)
theorem dX7_turns_28 : decode cX7_turns 28 = .ok (.iload_n 3, 1) := dk_29 (dk_at dksX7_turns_1 5 rfl rfl)
theorem dX7_turns_29 : decode cX7_turns 29 = .ok (.imul, 1) := dk_104 (dk_at dksX7_turns_1 6 rfl rfl)
theorem dX7_turns_30 : decode cX7_turns 30 = .ok (.iload 5, 2) := dk_21 5 (dk_at dksX7_turns_1 7 rfl rfl)
theorem dX7_turns_32 : decode cX7_turns 32 = .ok (.iadd, 1) := dk_96 (dk_at dksX7_turns_1 9 rfl rfl)
theorem dX7_turns_33 : decode cX7_turns 33 = .ok (.aload_n 1, 1) := dk_43 (dk_at dksX7_turns_1 10 rfl rfl)
theorem dX7_turns_34 : decode cX7_turns 34 = .ok (.iload_n 2, 1) := dk_28 (dk_at dksX7_turns_1 11 rfl rfl)
theorem dX7_turns_35 : decode cX7_turns 35 = .ok (.iload_n 3, 1) := dk_29 (dk_at dksX7_turns_1 12 rfl rfl)
theorem dX7_turns_36 : decode cX7_turns 36 = .ok (.iload 5, 2) := dk_21 5 (dk_at dksX7_turns_1 13 rfl rfl)
theorem dX7_turns_38 : decode cX7_turns 38 = .ok (.iload 4, 2) := dk_21 4 (dk_at dksX7_turns_1 15 rfl rfl)
theorem dX7_turns_40 : decode cX7_turns 40 = .ok (.invokevirtual 36, 3) := dk_182 0 36 (dk_at dksX7_turns_1 17 rfl rfl)
theorem dX7_turns_43 : decode cX7_turns 43 = .ok (.iastore, 1) := dk_79 (dk_at dksX7_turns_1 20 rfl rfl)
theorem dX7_turns_44 : decode cX7_turns 44 = .ok (.iinc 5 1, 3) := dk_132 5 1 (dk_at dksX7_turns_1 21 rfl rfl)
theorem dX7_turns_47 : decode cX7_turns 47 = .ok (.goto (-36), 3) := dk_167 255 220 (dk_at dksX7_turns_2 0 rfl rfl)
theorem dX7_turns_50 : decode cX7_turns 50 = .ok (.return_, 1) := dk_177 (dk_at dksX7_turns_2 3 rfl rfl)
theorem q102 : (Jvm.Cond.initialized "FogNets$Sky") ∈ lw_all := lw_g (lw_at lw_m1 10 rfl) rfl
theorem q287 : (Jvm.Cond.fieldLink "FogNets$Sky" (18 : Nat) "FogNets$Ridge" "hours" "I") ∈ lw_all := lw_g (lw_at lw_m1 195 rfl) rfl
theorem q403 : (Jvm.Cond.instantiable "FogNets$Sky" (2 : Nat)) ∈ lw_all := lw_g (lw_at lw_m2 71 rfl) rfl
theorem q405 : (Jvm.Cond.instanceMethod ({ cls := "FogNets$Sky", name := "<init>", desc := "()V" } : Jvm.MethodName)) ∈ lw_all := lw_g (lw_at lw_m2 73 rfl) rfl
theorem q406 : (Jvm.Cond.code ({ cls := "FogNets$Sky", name := "<init>", desc := "()V" } : Jvm.MethodName) prog_23_method_1_code (1 : Nat) (Option.none : Option Jvm.ClassFile.FieldType)) ∈ lw_all := lw_g (lw_at lw_m2 74 rfl) rfl
theorem q407 : (Jvm.Cond.methodLink "FogNets$Sky" (3 : Nat) ({ cls := "java/lang/Object", name := "<init>", desc := "()V" } : Jvm.MethodName)) ∈ lw_all := lw_g (lw_at lw_m2 75 rfl) rfl
theorem q408 : (Jvm.Cond.fieldLink "FogNets$Sky" (9 : Nat) "FogNets$Sky" "way" "[I") ∈ lw_all := lw_g (lw_at lw_m2 76 rfl) rfl
theorem q410 : (Jvm.Cond.fieldLink "FogNets$Sky" (15 : Nat) "FogNets$Sky" "bank" "[I") ∈ lw_all := lw_g (lw_at lw_m2 78 rfl) rfl
theorem q412 : (Jvm.Cond.laysFinal "FogNets$Sky" "FogNets$Sky" "way" "[I") ∈ lw_all := lw_g (lw_at lw_m2 80 rfl) rfl
theorem q413 : (Jvm.Cond.soleField "FogNets$Sky" "way") ∈ lw_all := lw_g (lw_at lw_m2 81 rfl) rfl
theorem q414 : (Jvm.Cond.laysFinal "FogNets$Sky" "FogNets$Sky" "bank" "[I") ∈ lw_all := lw_g (lw_at lw_m2 82 rfl) rfl
theorem q415 : (Jvm.Cond.soleField "FogNets$Sky" "bank") ∈ lw_all := lw_g (lw_at lw_m2 83 rfl) rfl
theorem q416 : (Jvm.Cond.superclass "FogNets$Sky" "java/lang/Object") ∈ lw_all := lw_g (lw_at lw_m2 84 rfl) rfl
theorem q880 : (Jvm.Cond.selects "FogNets$Sky" ({ cls := "java/lang/Object", name := "getClass", desc := "()Ljava/lang/Class;" } : Jvm.MethodName) ({ cls := "java/lang/Object", name := "getClass", desc := "()Ljava/lang/Class;" } : Jvm.MethodName)) ∈ lw_all := lw_g (lw_at lw_m4 68 rfl) rfl
theorem q1251 : (Jvm.Cond.instanceMethod ({ cls := "FogNets$Sky", name := "finds", desc := "(LFogNets$Ridge;I)LFogNets$Sky;" } : Jvm.MethodName)) ∈ lw_all := lw_g (lw_at lw_m5 199 rfl) rfl
theorem q1252 : (Jvm.Cond.selects "FogNets$Sky" ({ cls := "FogNets$Sky", name := "finds", desc := "(LFogNets$Ridge;I)LFogNets$Sky;" } : Jvm.MethodName) ({ cls := "FogNets$Sky", name := "finds", desc := "(LFogNets$Ridge;I)LFogNets$Sky;" } : Jvm.MethodName)) ∈ lw_all := lw_g (lw_at lw_m5 200 rfl) rfl
theorem q1253 : (Jvm.Cond.code ({ cls := "FogNets$Sky", name := "finds", desc := "(LFogNets$Ridge;I)LFogNets$Sky;" } : Jvm.MethodName) prog_23_method_2_code (4 : Nat) (Option.some (Jvm.ClassFile.FieldType.object "FogNets$Sky"))) ∈ lw_all := lw_g (lw_at lw_m5 201 rfl) rfl
theorem q1254 : (Jvm.Cond.methodLink "FogNets$Sky" (24 : Nat) ({ cls := "FogNets$Ridge", name := "wind", desc := "(II)I" } : Jvm.MethodName)) ∈ lw_all := lw_g (lw_at lw_m5 202 rfl) rfl
theorem q1255 : (Jvm.Cond.methodLink "FogNets$Sky" (28 : Nat) ({ cls := "FogNets$Sky", name := "turns", desc := "(LFogNets$Ridge;III)V" } : Jvm.MethodName)) ∈ lw_all := lw_g (lw_at lw_m5 203 rfl) rfl
theorem q1256 : (Jvm.Cond.instanceMethod ({ cls := "FogNets$Sky", name := "turns", desc := "(LFogNets$Ridge;III)V" } : Jvm.MethodName)) ∈ lw_all := lw_g (lw_at lw_m5 204 rfl) rfl
theorem q1257 : (Jvm.Cond.selects "FogNets$Sky" ({ cls := "FogNets$Sky", name := "turns", desc := "(LFogNets$Ridge;III)V" } : Jvm.MethodName) ({ cls := "FogNets$Sky", name := "turns", desc := "(LFogNets$Ridge;III)V" } : Jvm.MethodName)) ∈ lw_all := lw_g (lw_at lw_m5 205 rfl) rfl
theorem q1258 : (Jvm.Cond.code ({ cls := "FogNets$Sky", name := "turns", desc := "(LFogNets$Ridge;III)V" } : Jvm.MethodName) prog_23_method_3_code (6 : Nat) (Option.none : Option Jvm.ClassFile.FieldType)) ∈ lw_all := lw_g (lw_at lw_m5 206 rfl) rfl
theorem q1259 : (Jvm.Cond.methodLink "FogNets$Sky" (32 : Nat) ({ cls := "FogNets$Ridge", name := "lines", desc := "(I)I" } : Jvm.MethodName)) ∈ lw_all := lw_g (lw_at lw_m5 207 rfl) rfl
theorem q1260 : (Jvm.Cond.methodLink "FogNets$Sky" (36 : Nat) ({ cls := "FogNets$Ridge", name := "fog", desc := "(IIII)I" } : Jvm.MethodName)) ∈ lw_all := lw_g (lw_at lw_m5 208 rfl) rfl
theorem q2071 : (Jvm.Cond.castable "FogNets$Sky" "java/lang/Object") ∈ lw_tbl := lw_at lw_m9 59 rfl
theorem in_X7 : ∀ w ∈ wsX70, w ∈ lw_all := lw_in wsX70 [412, 414] (by decide +kernel) (by decide +kernel)

/-! FogNets$Wrong -/
set_option maxRecDepth 100000
def RX9 : String := "FogNets$Wrong"
def TX9 : u_T := fun k => match k with
  | 0 => ("java/lang/Throwable", "cause", "Ljava/lang/Throwable;", false)
  | 1 => ("java/lang/Throwable", "stackTrace", "[Ljava/lang/StackTraceElement;", false)
  | 2 => ("java/lang/Throwable", "suppressedExceptions", "Ljava/util/List;", false)
  | 3 => ("java/lang/Throwable", "detailMessage", "Ljava/lang/String;", false)
  | 4 => ("java/lang/Throwable", "backtrace", "Ljava/lang/Object;", false)
  | 5 => ("java/lang/Throwable", "depth", "I", false)
  | _ => ("FogNets$Wrong", "fault", "I", true)
def tyX9 : Nat → FieldType := fun k => match k with
  | 0 => .object "java/lang/Throwable"
  | 1 => .array (.object "java/lang/StackTraceElement")
  | 2 => .object "java/util/List"
  | 3 => .object "java/lang/String"
  | 4 => .object "java/lang/Object"
  | 5 => .int
  | _ => .int
abbrev wsX90 : List Cond := u_ws RX9 TX9 7
theorem nmX9 : ∀ a, a < 7 → ∀ b, b < 7 → a ≠ b → (TX9 a).2.1 ≠ (TX9 b).2.1 := by decide +kernel
theorem tyX9_ok : ∀ k, k < 7 → parseFieldDescriptor (TX9 k).2.2.1 = some (tyX9 k) := by decide +kernel
abbrev cX9_init : ByteArray := prog_28_method_1_code
def yX9_init : MethodName := ⟨RX9, "<init>", "(I)V"⟩
def dkwX9_init_0 : List UInt8 := [42, 183, 0, 1, 42, 27, 181, 0, 7, 177]
abbrev dktX9_init_0 : List UInt8 := dkwX9_init_0 ++ []
theorem dksX9_init_0 : cX9_init.data.toList.drop 0 = dktX9_init_0 := by decide +kernel
theorem dX9_init_0 : decode cX9_init 0 = .ok (.aload_n 0, 1) := dk_42 (dk_at dksX9_init_0 0 rfl rfl)
theorem dX9_init_1 : decode cX9_init 1 = .ok (.invokespecial 1, 3) := dk_183 0 1 (dk_at dksX9_init_0 1 rfl rfl)
theorem dX9_init_4 : decode cX9_init 4 = .ok (.aload_n 0, 1) := dk_42 (dk_at dksX9_init_0 4 rfl rfl)
theorem dX9_init_5 : decode cX9_init 5 = .ok (.iload_n 1, 1) := dk_27 (dk_at dksX9_init_0 5 rfl rfl)
theorem dX9_init_6 : decode cX9_init 6 = .ok (.putfield 7, 3) := dk_181 0 7 (dk_at dksX9_init_0 6 rfl rfl)
theorem dX9_init_9 : decode cX9_init 9 = .ok (.return_, 1) := dk_177 (dk_at dksX9_init_0 9 rfl rfl)
theorem q113 : (Jvm.Cond.initialized "FogNets$Wrong") ∈ lw_all := lw_g (lw_at lw_m1 21 rfl) rfl
theorem q661 : (Jvm.Cond.instantiable "FogNets$Wrong" (7 : Nat)) ∈ lw_all := lw_g (lw_at lw_m3 89 rfl) rfl
theorem q662 : (Jvm.Cond.castable "FogNets$Wrong" "FogNets$Wrong") ∈ lw_tbl := lw_at lw_m3 90 rfl
theorem q667 : (Jvm.Cond.selects "FogNets$Wrong" ({ cls := "java/lang/Throwable", name := "fillInStackTrace", desc := "(I)Ljava/lang/Throwable;" } : Jvm.MethodName) ({ cls := "java/lang/Throwable", name := "fillInStackTrace", desc := "(I)Ljava/lang/Throwable;" } : Jvm.MethodName)) ∈ lw_all := lw_g (lw_at lw_m3 95 rfl) rfl
theorem q668 : (Jvm.Cond.selects "FogNets$Wrong" ({ cls := "java/lang/Throwable", name := "fillInStackTrace", desc := "()Ljava/lang/Throwable;" } : Jvm.MethodName) ({ cls := "java/lang/Throwable", name := "fillInStackTrace", desc := "()Ljava/lang/Throwable;" } : Jvm.MethodName)) ∈ lw_all := lw_g (lw_at lw_m3 96 rfl) rfl
theorem q669 : (Jvm.Cond.lays "FogNets$Wrong" "java/lang/Throwable" "cause" "Ljava/lang/Throwable;") ∈ lw_all := lw_g (lw_at lw_m3 97 rfl) rfl
theorem q671 : (Jvm.Cond.lays "FogNets$Wrong" "java/lang/Throwable" "stackTrace" "[Ljava/lang/StackTraceElement;") ∈ lw_all := lw_g (lw_at lw_m3 99 rfl) rfl
theorem q673 : (Jvm.Cond.lays "FogNets$Wrong" "java/lang/Throwable" "suppressedExceptions" "Ljava/util/List;") ∈ lw_all := lw_g (lw_at lw_m3 101 rfl) rfl
theorem q675 : (Jvm.Cond.lays "FogNets$Wrong" "java/lang/Throwable" "detailMessage" "Ljava/lang/String;") ∈ lw_all := lw_g (lw_at lw_m3 103 rfl) rfl
theorem q677 : (Jvm.Cond.lays "FogNets$Wrong" "java/lang/Throwable" "backtrace" "Ljava/lang/Object;") ∈ lw_all := lw_g (lw_at lw_m3 105 rfl) rfl
theorem q699 : (Jvm.Cond.instanceMethod ({ cls := "FogNets$Wrong", name := "<init>", desc := "(I)V" } : Jvm.MethodName)) ∈ lw_all := lw_g (lw_at lw_m3 127 rfl) rfl
theorem q700 : (Jvm.Cond.code ({ cls := "FogNets$Wrong", name := "<init>", desc := "(I)V" } : Jvm.MethodName) prog_28_method_1_code (2 : Nat) (Option.none : Option Jvm.ClassFile.FieldType)) ∈ lw_all := lw_g (lw_at lw_m3 128 rfl) rfl
theorem q701 : (Jvm.Cond.methodLink "FogNets$Wrong" (1 : Nat) ({ cls := "java/lang/Exception", name := "<init>", desc := "()V" } : Jvm.MethodName)) ∈ lw_all := lw_g (lw_at lw_m3 129 rfl) rfl
theorem q705 : (Jvm.Cond.fieldLink "FogNets$Wrong" (7 : Nat) "FogNets$Wrong" "fault" "I") ∈ lw_all := lw_g (lw_at lw_m3 133 rfl) rfl
theorem q711 : (Jvm.Cond.laysFinal "FogNets$Wrong" "FogNets$Wrong" "fault" "I") ∈ lw_all := lw_g (lw_at lw_m3 139 rfl) rfl
theorem q712 : (Jvm.Cond.soleField "FogNets$Wrong" "fault") ∈ lw_all := lw_g (lw_at lw_m3 140 rfl) rfl
theorem q717 : (Jvm.Cond.lays "FogNets$Wrong" "java/lang/Throwable" "depth" "I") ∈ lw_all := lw_g (lw_at lw_m3 145 rfl) rfl
theorem q720 : (Jvm.Cond.superclass "FogNets$Wrong" "java/lang/Exception") ∈ lw_all := lw_g (lw_at lw_m3 148 rfl) rfl
theorem q885 : (Jvm.Cond.selects "FogNets$Wrong" ({ cls := "java/lang/Object", name := "getClass", desc := "()Ljava/lang/Class;" } : Jvm.MethodName) ({ cls := "java/lang/Object", name := "getClass", desc := "()Ljava/lang/Class;" } : Jvm.MethodName)) ∈ lw_all := lw_g (lw_at lw_m4 73 rfl) rfl
theorem q2073 : (Jvm.Cond.castable "FogNets$Wrong" "java/lang/Object") ∈ lw_tbl := lw_at lw_m9 61 rfl
theorem in_X9 : ∀ w ∈ wsX90, w ∈ lw_all := lw_in wsX90 [669, 671, 673, 675, 677, 717, 711] (by decide +kernel) (by decide +kernel)

/-! FogNets$Expression -/
set_option maxRecDepth 100000
def RX10 : String := "FogNets$Expression"
abbrev cX10_init : ByteArray := prog_5_method_1_code
def yX10_init : MethodName := ⟨RX10, "<init>", "()V"⟩
theorem dX10_init_0 : decode cX10_init 0 = .ok (.aload_n 0, 1) := by decide +kernel
theorem dX10_init_1 : decode cX10_init 1 = .ok (.invokespecial 1, 3) := by decide +kernel
theorem dX10_init_4 : decode cX10_init 4 = .ok (.return_, 1) := by decide +kernel
theorem q114 : (Jvm.Cond.initialized "FogNets$Expression") ∈ lw_all := lw_g (lw_at lw_m1 22 rfl) rfl
theorem q763 : (Jvm.Cond.instanceMethod ({ cls := "FogNets$Expression", name := "<init>", desc := "()V" } : Jvm.MethodName)) ∈ lw_all := lw_g (lw_at lw_m3 191 rfl) rfl
theorem q764 : (Jvm.Cond.code ({ cls := "FogNets$Expression", name := "<init>", desc := "()V" } : Jvm.MethodName) prog_5_method_1_code (1 : Nat) (Option.none : Option Jvm.ClassFile.FieldType)) ∈ lw_all := lw_g (lw_at lw_m3 192 rfl) rfl
theorem q765 : (Jvm.Cond.methodLink "FogNets$Expression" (1 : Nat) ({ cls := "java/lang/Object", name := "<init>", desc := "()V" } : Jvm.MethodName)) ∈ lw_all := lw_g (lw_at lw_m3 193 rfl) rfl
theorem q1133 : (Jvm.Cond.declares ({ cls := "FogNets$Expression", name := "of", desc := "(LFogNets$Facts;)I" } : Jvm.MethodName)) ∈ lw_tbl := lw_at lw_m5 81 rfl
theorem q1134 : (Jvm.Cond.sameMethod "FogNets$Expression" "FogNets$Expression" "of" "(LFogNets$Facts;)I") ∈ lw_all := lw_g (lw_at lw_m5 82 rfl) rfl

/-! FogNets$Fact -/
set_option maxRecDepth 100000
def RX11 : String := "FogNets$Fact"
def TX11 : u_T := fun k => match k with
  | _ => ("FogNets$Fact", "which", "I", true)
def tyX11 : Nat → FieldType := fun k => match k with
  | _ => .int
abbrev wsX110 : List Cond := u_ws RX11 TX11 1
theorem nmX11 : ∀ a, a < 1 → ∀ b, b < 1 → a ≠ b → (TX11 a).2.1 ≠ (TX11 b).2.1 := by decide +kernel
theorem tyX11_ok : ∀ k, k < 1 → parseFieldDescriptor (TX11 k).2.2.1 = some (tyX11 k) := by decide +kernel
abbrev cX11_init : ByteArray := prog_6_method_1_code
def yX11_init : MethodName := ⟨RX11, "<init>", "(I)V"⟩
def dkwX11_init_0 : List UInt8 := [42, 183, 0, 1, 42, 27, 181, 0, 7, 177]
abbrev dktX11_init_0 : List UInt8 := dkwX11_init_0 ++ []
theorem dksX11_init_0 : cX11_init.data.toList.drop 0 = dktX11_init_0 := by decide +kernel
theorem dX11_init_0 : decode cX11_init 0 = .ok (.aload_n 0, 1) := dk_42 (dk_at dksX11_init_0 0 rfl rfl)
theorem dX11_init_1 : decode cX11_init 1 = .ok (.invokespecial 1, 3) := dk_183 0 1 (dk_at dksX11_init_0 1 rfl rfl)
theorem dX11_init_4 : decode cX11_init 4 = .ok (.aload_n 0, 1) := dk_42 (dk_at dksX11_init_0 4 rfl rfl)
theorem dX11_init_5 : decode cX11_init 5 = .ok (.iload_n 1, 1) := dk_27 (dk_at dksX11_init_0 5 rfl rfl)
theorem dX11_init_6 : decode cX11_init 6 = .ok (.putfield 7, 3) := dk_181 0 7 (dk_at dksX11_init_0 6 rfl rfl)
theorem dX11_init_9 : decode cX11_init 9 = .ok (.return_, 1) := dk_177 (dk_at dksX11_init_0 9 rfl rfl)
abbrev cX11_of : ByteArray := prog_6_method_2_code
def yX11_of : MethodName := ⟨RX11, "of", "(LFogNets$Facts;)I"⟩
def dkwX11_of_0 : List UInt8 := [43, 180, 0, 13, 42, 180, 0, 7, 46, 172]
abbrev dktX11_of_0 : List UInt8 := dkwX11_of_0 ++ []
theorem dksX11_of_0 : cX11_of.data.toList.drop 0 = dktX11_of_0 := by decide +kernel
theorem dX11_of_0 : decode cX11_of 0 = .ok (.aload_n 1, 1) := dk_43 (dk_at dksX11_of_0 0 rfl rfl)
theorem dX11_of_1 : decode cX11_of 1 = .ok (.getfield 13, 3) := dk_180 0 13 (dk_at dksX11_of_0 1 rfl rfl)
theorem dX11_of_4 : decode cX11_of 4 = .ok (.aload_n 0, 1) := dk_42 (dk_at dksX11_of_0 4 rfl rfl)
theorem dX11_of_5 : decode cX11_of 5 = .ok (.getfield 7, 3) := dk_180 0 7 (dk_at dksX11_of_0 5 rfl rfl)
theorem dX11_of_8 : decode cX11_of 8 = .ok (.iaload, 1) := dk_46 (dk_at dksX11_of_0 8 rfl rfl)
theorem dX11_of_9 : decode cX11_of 9 = .ok (.ireturn, 1) := dk_172 (dk_at dksX11_of_0 9 rfl rfl)
theorem q115 : (Jvm.Cond.initialized "FogNets$Fact") ∈ lw_all := lw_g (lw_at lw_m1 23 rfl) rfl
theorem q275 : (Jvm.Cond.fieldLink "FogNets$Fact" (13 : Nat) "FogNets$Facts" "of" "[I") ∈ lw_all := lw_g (lw_at lw_m1 183 rfl) rfl
theorem q758 : (Jvm.Cond.instantiable "FogNets$Fact" (1 : Nat)) ∈ lw_all := lw_g (lw_at lw_m3 186 rfl) rfl
theorem q760 : (Jvm.Cond.instanceMethod ({ cls := "FogNets$Fact", name := "<init>", desc := "(I)V" } : Jvm.MethodName)) ∈ lw_all := lw_g (lw_at lw_m3 188 rfl) rfl
theorem q761 : (Jvm.Cond.code ({ cls := "FogNets$Fact", name := "<init>", desc := "(I)V" } : Jvm.MethodName) prog_6_method_1_code (2 : Nat) (Option.none : Option Jvm.ClassFile.FieldType)) ∈ lw_all := lw_g (lw_at lw_m3 189 rfl) rfl
theorem q762 : (Jvm.Cond.methodLinkNest "FogNets$Fact" (1 : Nat) ({ cls := "FogNets$Expression", name := "<init>", desc := "()V" } : Jvm.MethodName) "FogNets") ∈ lw_tbl := lw_at lw_m3 190 rfl
theorem q766 : (Jvm.Cond.fieldLink "FogNets$Fact" (7 : Nat) "FogNets$Fact" "which" "I") ∈ lw_all := lw_g (lw_at lw_m3 194 rfl) rfl
theorem q767 : (Jvm.Cond.laysFinal "FogNets$Fact" "FogNets$Fact" "which" "I") ∈ lw_all := lw_g (lw_at lw_m3 195 rfl) rfl
theorem q768 : (Jvm.Cond.soleField "FogNets$Fact" "which") ∈ lw_all := lw_g (lw_at lw_m3 196 rfl) rfl
theorem q769 : (Jvm.Cond.superclass "FogNets$Fact" "FogNets$Expression") ∈ lw_all := lw_g (lw_at lw_m3 197 rfl) rfl
theorem q864 : (Jvm.Cond.selects "FogNets$Fact" ({ cls := "java/lang/Object", name := "getClass", desc := "()Ljava/lang/Class;" } : Jvm.MethodName) ({ cls := "java/lang/Object", name := "getClass", desc := "()Ljava/lang/Class;" } : Jvm.MethodName)) ∈ lw_all := lw_g (lw_at lw_m4 52 rfl) rfl
theorem q1139 : (Jvm.Cond.instanceMethod ({ cls := "FogNets$Fact", name := "of", desc := "(LFogNets$Facts;)I" } : Jvm.MethodName)) ∈ lw_all := lw_g (lw_at lw_m5 87 rfl) rfl
theorem q1140 : (Jvm.Cond.code ({ cls := "FogNets$Fact", name := "of", desc := "(LFogNets$Facts;)I" } : Jvm.MethodName) prog_6_method_2_code (2 : Nat) (Option.some Jvm.ClassFile.FieldType.int)) ∈ lw_all := lw_g (lw_at lw_m5 88 rfl) rfl
theorem q1185 : (Jvm.Cond.selects "FogNets$Fact" ({ cls := "FogNets$Expression", name := "of", desc := "(LFogNets$Facts;)I" } : Jvm.MethodName) ({ cls := "FogNets$Fact", name := "of", desc := "(LFogNets$Facts;)I" } : Jvm.MethodName)) ∈ lw_all := lw_g (lw_at lw_m5 133 rfl) rfl
theorem q2074 : (Jvm.Cond.castable "FogNets$Fact" "java/lang/Object") ∈ lw_tbl := lw_at lw_m9 62 rfl
theorem in_X11 : ∀ w ∈ wsX110, w ∈ lw_all := lw_in wsX110 [767] (by decide +kernel) (by decide +kernel)

/-! FogNets$Plain -/
set_option maxRecDepth 100000
def RX12 : String := "FogNets$Plain"
def TX12 : u_T := fun k => match k with
  | _ => ("FogNets$Plain", "n", "I", true)
def tyX12 : Nat → FieldType := fun k => match k with
  | _ => .int
abbrev wsX120 : List Cond := u_ws RX12 TX12 1
theorem nmX12 : ∀ a, a < 1 → ∀ b, b < 1 → a ≠ b → (TX12 a).2.1 ≠ (TX12 b).2.1 := by decide +kernel
theorem tyX12_ok : ∀ k, k < 1 → parseFieldDescriptor (TX12 k).2.2.1 = some (tyX12 k) := by decide +kernel
abbrev cX12_init : ByteArray := prog_17_method_1_code
def yX12_init : MethodName := ⟨RX12, "<init>", "(I)V"⟩
def dkwX12_init_0 : List UInt8 := [42, 183, 0, 1, 42, 27, 181, 0, 7, 177]
abbrev dktX12_init_0 : List UInt8 := dkwX12_init_0 ++ []
theorem dksX12_init_0 : cX12_init.data.toList.drop 0 = dktX12_init_0 := by decide +kernel
theorem dX12_init_0 : decode cX12_init 0 = .ok (.aload_n 0, 1) := dk_42 (dk_at dksX12_init_0 0 rfl rfl)
theorem dX12_init_1 : decode cX12_init 1 = .ok (.invokespecial 1, 3) := dk_183 0 1 (dk_at dksX12_init_0 1 rfl rfl)
theorem dX12_init_4 : decode cX12_init 4 = .ok (.aload_n 0, 1) := dk_42 (dk_at dksX12_init_0 4 rfl rfl)
theorem dX12_init_5 : decode cX12_init 5 = .ok (.iload_n 1, 1) := dk_27 (dk_at dksX12_init_0 5 rfl rfl)
theorem dX12_init_6 : decode cX12_init 6 = .ok (.putfield 7, 3) := dk_181 0 7 (dk_at dksX12_init_0 6 rfl rfl)
theorem dX12_init_9 : decode cX12_init 9 = .ok (.return_, 1) := dk_177 (dk_at dksX12_init_0 9 rfl rfl)
abbrev cX12_of : ByteArray := prog_17_method_2_code
def yX12_of : MethodName := ⟨RX12, "of", "(LFogNets$Facts;)I"⟩
theorem dX12_of_0 : decode cX12_of 0 = .ok (.aload_n 0, 1) := by decide +kernel
theorem dX12_of_1 : decode cX12_of 1 = .ok (.getfield 7, 3) := by decide +kernel
theorem dX12_of_4 : decode cX12_of 4 = .ok (.ireturn, 1) := by decide +kernel
theorem q116 : (Jvm.Cond.initialized "FogNets$Plain") ∈ lw_all := lw_g (lw_at lw_m1 24 rfl) rfl
theorem q771 : (Jvm.Cond.instantiable "FogNets$Plain" (1 : Nat)) ∈ lw_all := lw_g (lw_at lw_m3 199 rfl) rfl
theorem q773 : (Jvm.Cond.instanceMethod ({ cls := "FogNets$Plain", name := "<init>", desc := "(I)V" } : Jvm.MethodName)) ∈ lw_all := lw_g (lw_at lw_m3 201 rfl) rfl
theorem q774 : (Jvm.Cond.code ({ cls := "FogNets$Plain", name := "<init>", desc := "(I)V" } : Jvm.MethodName) prog_17_method_1_code (2 : Nat) (Option.none : Option Jvm.ClassFile.FieldType)) ∈ lw_all := lw_g (lw_at lw_m3 202 rfl) rfl
theorem q775 : (Jvm.Cond.methodLinkNest "FogNets$Plain" (1 : Nat) ({ cls := "FogNets$Expression", name := "<init>", desc := "()V" } : Jvm.MethodName) "FogNets") ∈ lw_tbl := lw_at lw_m3 203 rfl
theorem q776 : (Jvm.Cond.fieldLink "FogNets$Plain" (7 : Nat) "FogNets$Plain" "n" "I") ∈ lw_all := lw_g (lw_at lw_m3 204 rfl) rfl
theorem q777 : (Jvm.Cond.laysFinal "FogNets$Plain" "FogNets$Plain" "n" "I") ∈ lw_all := lw_g (lw_at lw_m3 205 rfl) rfl
theorem q778 : (Jvm.Cond.soleField "FogNets$Plain" "n") ∈ lw_all := lw_g (lw_at lw_m3 206 rfl) rfl
theorem q779 : (Jvm.Cond.superclass "FogNets$Plain" "FogNets$Expression") ∈ lw_all := lw_g (lw_at lw_m3 207 rfl) rfl
theorem q874 : (Jvm.Cond.selects "FogNets$Plain" ({ cls := "java/lang/Object", name := "getClass", desc := "()Ljava/lang/Class;" } : Jvm.MethodName) ({ cls := "java/lang/Object", name := "getClass", desc := "()Ljava/lang/Class;" } : Jvm.MethodName)) ∈ lw_all := lw_g (lw_at lw_m4 62 rfl) rfl
theorem q1144 : (Jvm.Cond.instanceMethod ({ cls := "FogNets$Plain", name := "of", desc := "(LFogNets$Facts;)I" } : Jvm.MethodName)) ∈ lw_all := lw_g (lw_at lw_m5 92 rfl) rfl
theorem q1145 : (Jvm.Cond.code ({ cls := "FogNets$Plain", name := "of", desc := "(LFogNets$Facts;)I" } : Jvm.MethodName) prog_17_method_2_code (2 : Nat) (Option.some Jvm.ClassFile.FieldType.int)) ∈ lw_all := lw_g (lw_at lw_m5 93 rfl) rfl
theorem q1187 : (Jvm.Cond.selects "FogNets$Plain" ({ cls := "FogNets$Expression", name := "of", desc := "(LFogNets$Facts;)I" } : Jvm.MethodName) ({ cls := "FogNets$Plain", name := "of", desc := "(LFogNets$Facts;)I" } : Jvm.MethodName)) ∈ lw_all := lw_g (lw_at lw_m5 135 rfl) rfl
theorem q2075 : (Jvm.Cond.castable "FogNets$Plain" "java/lang/Object") ∈ lw_tbl := lw_at lw_m9 63 rfl
theorem in_X12 : ∀ w ∈ wsX120, w ∈ lw_all := lw_in wsX120 [777] (by decide +kernel) (by decide +kernel)

/-! FogNets$Not -/
set_option maxRecDepth 100000
def RX13 : String := "FogNets$Not"
def TX13 : u_T := fun k => match k with
  | _ => ("FogNets$Not", "e", "LFogNets$Expression;", true)
def tyX13 : Nat → FieldType := fun k => match k with
  | _ => .object "FogNets$Expression"
abbrev wsX130 : List Cond := u_ws RX13 TX13 1
theorem nmX13 : ∀ a, a < 1 → ∀ b, b < 1 → a ≠ b → (TX13 a).2.1 ≠ (TX13 b).2.1 := by decide +kernel
theorem tyX13_ok : ∀ k, k < 1 → parseFieldDescriptor (TX13 k).2.2.1 = some (tyX13 k) := by decide +kernel
abbrev cX13_init : ByteArray := prog_15_method_1_code
def yX13_init : MethodName := ⟨RX13, "<init>", "(LFogNets$Expression;)V"⟩
def dkwX13_init_0 : List UInt8 := [42, 183, 0, 1, 42, 43, 181, 0, 7, 177]
abbrev dktX13_init_0 : List UInt8 := dkwX13_init_0 ++ []
theorem dksX13_init_0 : cX13_init.data.toList.drop 0 = dktX13_init_0 := by decide +kernel
theorem dX13_init_0 : decode cX13_init 0 = .ok (.aload_n 0, 1) := dk_42 (dk_at dksX13_init_0 0 rfl rfl)
theorem dX13_init_1 : decode cX13_init 1 = .ok (.invokespecial 1, 3) := dk_183 0 1 (dk_at dksX13_init_0 1 rfl rfl)
theorem dX13_init_4 : decode cX13_init 4 = .ok (.aload_n 0, 1) := dk_42 (dk_at dksX13_init_0 4 rfl rfl)
theorem dX13_init_5 : decode cX13_init 5 = .ok (.aload_n 1, 1) := dk_43 (dk_at dksX13_init_0 5 rfl rfl)
theorem dX13_init_6 : decode cX13_init 6 = .ok (.putfield 7, 3) := dk_181 0 7 (dk_at dksX13_init_0 6 rfl rfl)
theorem dX13_init_9 : decode cX13_init 9 = .ok (.return_, 1) := dk_177 (dk_at dksX13_init_0 9 rfl rfl)
abbrev cX13_of : ByteArray := prog_15_method_2_code
def yX13_of : MethodName := ⟨RX13, "of", "(LFogNets$Facts;)I"⟩
def dkwX13_of_0 : List UInt8 := [42, 180, 0, 7, 43, 182, 0, 13, 154, 0, 7, 4, 167, 0, 4, 3, 172]
abbrev dktX13_of_0 : List UInt8 := dkwX13_of_0 ++ []
theorem dksX13_of_0 : cX13_of.data.toList.drop 0 = dktX13_of_0 := by decide +kernel
theorem dX13_of_0 : decode cX13_of 0 = .ok (.aload_n 0, 1) := dk_42 (dk_at dksX13_of_0 0 rfl rfl)
theorem dX13_of_1 : decode cX13_of 1 = .ok (.getfield 7, 3) := dk_180 0 7 (dk_at dksX13_of_0 1 rfl rfl)
theorem dX13_of_4 : decode cX13_of 4 = .ok (.aload_n 1, 1) := dk_43 (dk_at dksX13_of_0 4 rfl rfl)
theorem dX13_of_5 : decode cX13_of 5 = .ok (.invokevirtual 13, 3) := dk_182 0 13 (dk_at dksX13_of_0 5 rfl rfl)
theorem dX13_of_8 : decode cX13_of 8 = .ok (.ifCond .ne 7, 3) := dk_154 0 7 (dk_at dksX13_of_0 8 rfl rfl)
theorem dX13_of_11 : decode cX13_of 11 = .ok (.iconst 1, 1) := dk_4 (dk_at dksX13_of_0 11 rfl rfl)
theorem dX13_of_12 : decode cX13_of 12 = .ok (.goto 4, 3) := dk_167 0 4 (dk_at dksX13_of_0 12 rfl rfl)
theorem dX13_of_15 : decode cX13_of 15 = .ok (.iconst 0, 1) := dk_3 (dk_at dksX13_of_0 15 rfl rfl)
theorem dX13_of_16 : decode cX13_of 16 = .ok (.ireturn, 1) := dk_172 (dk_at dksX13_of_0 16 rfl rfl)
theorem q117 : (Jvm.Cond.initialized "FogNets$Not") ∈ lw_all := lw_g (lw_at lw_m1 25 rfl) rfl
theorem q781 : (Jvm.Cond.instantiable "FogNets$Not" (1 : Nat)) ∈ lw_all := lw_g (lw_at lw_m3 209 rfl) rfl
theorem q783 : (Jvm.Cond.instanceMethod ({ cls := "FogNets$Not", name := "<init>", desc := "(LFogNets$Expression;)V" } : Jvm.MethodName)) ∈ lw_all := lw_g (lw_at lw_m3 211 rfl) rfl
theorem q784 : (Jvm.Cond.code ({ cls := "FogNets$Not", name := "<init>", desc := "(LFogNets$Expression;)V" } : Jvm.MethodName) prog_15_method_1_code (2 : Nat) (Option.none : Option Jvm.ClassFile.FieldType)) ∈ lw_all := lw_g (lw_at lw_m3 212 rfl) rfl
theorem q785 : (Jvm.Cond.methodLinkNest "FogNets$Not" (1 : Nat) ({ cls := "FogNets$Expression", name := "<init>", desc := "()V" } : Jvm.MethodName) "FogNets") ∈ lw_tbl := lw_at lw_m3 213 rfl
theorem q786 : (Jvm.Cond.fieldLink "FogNets$Not" (7 : Nat) "FogNets$Not" "e" "LFogNets$Expression;") ∈ lw_all := lw_g (lw_at lw_m3 214 rfl) rfl
theorem q787 : (Jvm.Cond.laysFinal "FogNets$Not" "FogNets$Not" "e" "LFogNets$Expression;") ∈ lw_all := lw_g (lw_at lw_m3 215 rfl) rfl
theorem q788 : (Jvm.Cond.soleField "FogNets$Not" "e") ∈ lw_all := lw_g (lw_at lw_m3 216 rfl) rfl
theorem q789 : (Jvm.Cond.superclass "FogNets$Not" "FogNets$Expression") ∈ lw_all := lw_g (lw_at lw_m3 217 rfl) rfl
theorem q872 : (Jvm.Cond.selects "FogNets$Not" ({ cls := "java/lang/Object", name := "getClass", desc := "()Ljava/lang/Class;" } : Jvm.MethodName) ({ cls := "java/lang/Object", name := "getClass", desc := "()Ljava/lang/Class;" } : Jvm.MethodName)) ∈ lw_all := lw_g (lw_at lw_m4 60 rfl) rfl
theorem q1141 : (Jvm.Cond.instanceMethod ({ cls := "FogNets$Not", name := "of", desc := "(LFogNets$Facts;)I" } : Jvm.MethodName)) ∈ lw_all := lw_g (lw_at lw_m5 89 rfl) rfl
theorem q1142 : (Jvm.Cond.code ({ cls := "FogNets$Not", name := "of", desc := "(LFogNets$Facts;)I" } : Jvm.MethodName) prog_15_method_2_code (2 : Nat) (Option.some Jvm.ClassFile.FieldType.int)) ∈ lw_all := lw_g (lw_at lw_m5 90 rfl) rfl
theorem q1143 : (Jvm.Cond.methodLink "FogNets$Not" (13 : Nat) ({ cls := "FogNets$Expression", name := "of", desc := "(LFogNets$Facts;)I" } : Jvm.MethodName)) ∈ lw_all := lw_g (lw_at lw_m5 91 rfl) rfl
theorem q1186 : (Jvm.Cond.selects "FogNets$Not" ({ cls := "FogNets$Expression", name := "of", desc := "(LFogNets$Facts;)I" } : Jvm.MethodName) ({ cls := "FogNets$Not", name := "of", desc := "(LFogNets$Facts;)I" } : Jvm.MethodName)) ∈ lw_all := lw_g (lw_at lw_m5 134 rfl) rfl
theorem q2076 : (Jvm.Cond.castable "FogNets$Not" "java/lang/Object") ∈ lw_tbl := lw_at lw_m9 64 rfl
theorem in_X13 : ∀ w ∈ wsX130, w ∈ lw_all := lw_in wsX130 [787] (by decide +kernel) (by decide +kernel)

/-! FogNets$Chain -/
set_option maxRecDepth 100000
def RX14 : String := "FogNets$Chain"
def TX14 : u_T := fun k => match k with
  | 0 => ("FogNets$Chain", "first", "LFogNets$Expression;", true)
  | _ => ("FogNets$Chain", "links", "Ljava/util/ArrayList;", true)
def tyX14 : Nat → FieldType := fun k => match k with
  | 0 => .object "FogNets$Expression"
  | _ => .object "java/util/ArrayList"
abbrev wsX140 : List Cond := u_ws RX14 TX14 2
theorem nmX14 : ∀ a, a < 2 → ∀ b, b < 2 → a ≠ b → (TX14 a).2.1 ≠ (TX14 b).2.1 := by decide +kernel
theorem tyX14_ok : ∀ k, k < 2 → parseFieldDescriptor (TX14 k).2.2.1 = some (tyX14 k) := by decide +kernel
abbrev cX14_init : ByteArray := prog_4_method_1_code
def yX14_init : MethodName := ⟨RX14, "<init>", "(LFogNets$Expression;)V"⟩
def dkwX14_init_0 : List UInt8 := [42, 183, 0, 1, 42, 187, 0, 7, 89, 4, 183, 0, 9, 181, 0, 12, 42, 43, 181, 0, 18, 177]
abbrev dktX14_init_0 : List UInt8 := dkwX14_init_0 ++ []
theorem dksX14_init_0 : cX14_init.data.toList.drop 0 = dktX14_init_0 := by decide +kernel
theorem dX14_init_0 : decode cX14_init 0 = .ok (.aload_n 0, 1) := dk_42 (dk_at dksX14_init_0 0 rfl rfl)
theorem dX14_init_1 : decode cX14_init 1 = .ok (.invokespecial 1, 3) := dk_183 0 1 (dk_at dksX14_init_0 1 rfl rfl)
theorem dX14_init_4 : decode cX14_init 4 = .ok (.aload_n 0, 1) := dk_42 (dk_at dksX14_init_0 4 rfl rfl)
theorem dX14_init_5 : decode cX14_init 5 = .ok (.new 7, 3) := dk_187 0 7 (dk_at dksX14_init_0 5 rfl rfl)
theorem dX14_init_8 : decode cX14_init 8 = .ok (.dup, 1) := dk_89 (dk_at dksX14_init_0 8 rfl rfl)
theorem dX14_init_9 : decode cX14_init 9 = .ok (.iconst 1, 1) := dk_4 (dk_at dksX14_init_0 9 rfl rfl)
theorem dX14_init_10 : decode cX14_init 10 = .ok (.invokespecial 9, 3) := dk_183 0 9 (dk_at dksX14_init_0 10 rfl rfl)
theorem dX14_init_13 : decode cX14_init 13 = .ok (.putfield 12, 3) := dk_181 0 12 (dk_at dksX14_init_0 13 rfl rfl)
theorem dX14_init_16 : decode cX14_init 16 = .ok (.aload_n 0, 1) := dk_42 (dk_at dksX14_init_0 16 rfl rfl)
theorem dX14_init_17 : decode cX14_init 17 = .ok (.aload_n 1, 1) := dk_43 (dk_at dksX14_init_0 17 rfl rfl)
theorem dX14_init_18 : decode cX14_init 18 = .ok (.putfield 18, 3) := dk_181 0 18 (dk_at dksX14_init_0 18 rfl rfl)
theorem dX14_init_21 : decode cX14_init 21 = .ok (.return_, 1) := dk_177 (dk_at dksX14_init_0 21 rfl rfl)
abbrev cX14_of : ByteArray := prog_4_method_2_code
def yX14_of : MethodName := ⟨RX14, "of", "(LFogNets$Facts;)I"⟩
def dkwX14_of_1 : List UInt8 := [180, 0, 12, 29, 182, 0, 30, 192, 0, 34, 28, 43, 182, 0, 36, 61, 132, 3, 1, 167, 255, 225, 28, 172]
abbrev dktX14_of_1 : List UInt8 := dkwX14_of_1 ++ []
def dkwX14_of_0 : List UInt8 := [42, 180, 0, 18, 43, 182, 0, 22, 61, 3, 62, 29, 42, 180, 0, 12, 182, 0, 26, 162, 0, 26, 42]
abbrev dktX14_of_0 : List UInt8 := dkwX14_of_0 ++ dktX14_of_1
theorem dksX14_of_0 : cX14_of.data.toList.drop 0 = dktX14_of_0 := by decide +kernel
theorem dksX14_of_1 : cX14_of.data.toList.drop 23 = dktX14_of_1 := dk_seg dksX14_of_0 23 rfl rfl
theorem dX14_of_0 : decode cX14_of 0 = .ok (.aload_n 0, 1) := dk_42 (dk_at dksX14_of_0 0 rfl rfl)
theorem dX14_of_1 : decode cX14_of 1 = .ok (.getfield 18, 3) := dk_180 0 18 (dk_at dksX14_of_0 1 rfl rfl)
theorem dX14_of_4 : decode cX14_of 4 = .ok (.aload_n 1, 1) := dk_43 (dk_at dksX14_of_0 4 rfl rfl)
theorem dX14_of_5 : decode cX14_of 5 = .ok (.invokevirtual 22, 3) := dk_182 0 22 (dk_at dksX14_of_0 5 rfl rfl)
theorem dX14_of_8 : decode cX14_of 8 = .ok (.istore_n 2, 1) := dk_61 (dk_at dksX14_of_0 8 rfl rfl)
theorem dX14_of_9 : decode cX14_of 9 = .ok (.iconst 0, 1) := dk_3 (dk_at dksX14_of_0 9 rfl rfl)
theorem dX14_of_10 : decode cX14_of 10 = .ok (.istore_n 3, 1) := dk_62 (dk_at dksX14_of_0 10 rfl rfl)
theorem dX14_of_11 : decode cX14_of 11 = .ok (.iload_n 3, 1) := dk_29 (dk_at dksX14_of_0 11 rfl rfl)
theorem dX14_of_12 : decode cX14_of 12 = .ok (.aload_n 0, 1) := dk_42 (dk_at dksX14_of_0 12 rfl rfl)
theorem dX14_of_13 : decode cX14_of 13 = .ok (.getfield 12, 3) := dk_180 0 12 (dk_at dksX14_of_0 13 rfl rfl)
theorem dX14_of_16 : decode cX14_of 16 = .ok (.invokevirtual 26, 3) := dk_182 0 26 (dk_at dksX14_of_0 16 rfl rfl)
theorem dX14_of_19 : decode cX14_of 19 = .ok (.if_icmp .ge 26, 3) := dk_162 0 26 (dk_at dksX14_of_0 19 rfl rfl)
theorem dX14_of_22 : decode cX14_of 22 = .ok (.aload_n 0, 1) := dk_42 (dk_at dksX14_of_0 22 rfl rfl)
theorem dX14_of_23 : decode cX14_of 23 = .ok (.getfield 12, 3) := dk_180 0 12 (dk_at dksX14_of_1 0 rfl rfl)
theorem dX14_of_26 : decode cX14_of 26 = .ok (.iload_n 3, 1) := dk_29 (dk_at dksX14_of_1 3 rfl rfl)
theorem dX14_of_27 : decode cX14_of 27 = .ok (.invokevirtual 30, 3) := dk_182 0 30 (dk_at dksX14_of_1 4 rfl rfl)
theorem dX14_of_30 : decode cX14_of 30 = .ok (.checkcast 34, 3) := dk_192 0 34 (dk_at dksX14_of_1 7 rfl rfl)
theorem dX14_of_33 : decode cX14_of 33 = .ok (.iload_n 2, 1) := dk_28 (dk_at dksX14_of_1 10 rfl rfl)
theorem dX14_of_34 : decode cX14_of 34 = .ok (.aload_n 1, 1) := dk_43 (dk_at dksX14_of_1 11 rfl rfl)
theorem dX14_of_35 : decode cX14_of 35 = .ok (.invokevirtual 36, 3) := dk_182 0 36 (dk_at dksX14_of_1 12 rfl rfl)
theorem dX14_of_38 : decode cX14_of 38 = .ok (.istore_n 2, 1) := dk_61 (dk_at dksX14_of_1 15 rfl rfl)
theorem dX14_of_39 : decode cX14_of 39 = .ok (.iinc 3 1, 3) := dk_132 3 1 (dk_at dksX14_of_1 16 rfl rfl)
theorem dX14_of_42 : decode cX14_of 42 = .ok (.goto (-31), 3) := dk_167 255 225 (dk_at dksX14_of_1 19 rfl rfl)
theorem dX14_of_45 : decode cX14_of 45 = .ok (.iload_n 2, 1) := dk_28 (dk_at dksX14_of_1 22 rfl rfl)
theorem dX14_of_46 : decode cX14_of 46 = .ok (.ireturn, 1) := dk_172 (dk_at dksX14_of_1 23 rfl rfl)
theorem q118 : (Jvm.Cond.initialized "FogNets$Chain") ∈ lw_all := lw_g (lw_at lw_m1 26 rfl) rfl
theorem q802 : (Jvm.Cond.instantiable "FogNets$Chain" (2 : Nat)) ∈ lw_all := lw_g (lw_at lw_m3 230 rfl) rfl
theorem q804 : (Jvm.Cond.instanceMethod ({ cls := "FogNets$Chain", name := "<init>", desc := "(LFogNets$Expression;)V" } : Jvm.MethodName)) ∈ lw_all := lw_g (lw_at lw_m3 232 rfl) rfl
theorem q805 : (Jvm.Cond.code ({ cls := "FogNets$Chain", name := "<init>", desc := "(LFogNets$Expression;)V" } : Jvm.MethodName) prog_4_method_1_code (2 : Nat) (Option.none : Option Jvm.ClassFile.FieldType)) ∈ lw_all := lw_g (lw_at lw_m3 233 rfl) rfl
theorem q806 : (Jvm.Cond.methodLinkNest "FogNets$Chain" (1 : Nat) ({ cls := "FogNets$Expression", name := "<init>", desc := "()V" } : Jvm.MethodName) "FogNets") ∈ lw_tbl := lw_at lw_m3 234 rfl
theorem q807 : (Jvm.Cond.classLink "FogNets$Chain" (7 : Nat) "java/util/ArrayList") ∈ lw_all := lw_g (lw_at lw_m3 235 rfl) rfl
theorem q808 : (Jvm.Cond.methodLink "FogNets$Chain" (9 : Nat) ({ cls := "java/util/ArrayList", name := "<init>", desc := "(I)V" } : Jvm.MethodName)) ∈ lw_all := lw_g (lw_at lw_m3 236 rfl) rfl
theorem q809 : (Jvm.Cond.fieldLink "FogNets$Chain" (18 : Nat) "FogNets$Chain" "first" "LFogNets$Expression;") ∈ lw_all := lw_g (lw_at lw_m3 237 rfl) rfl
theorem q810 : (Jvm.Cond.fieldLink "FogNets$Chain" (12 : Nat) "FogNets$Chain" "links" "Ljava/util/ArrayList;") ∈ lw_all := lw_g (lw_at lw_m3 238 rfl) rfl
theorem q812 : (Jvm.Cond.laysFinal "FogNets$Chain" "FogNets$Chain" "first" "LFogNets$Expression;") ∈ lw_all := lw_g (lw_at lw_m4 0 rfl) rfl
theorem q813 : (Jvm.Cond.soleField "FogNets$Chain" "first") ∈ lw_all := lw_g (lw_at lw_m4 1 rfl) rfl
theorem q814 : (Jvm.Cond.laysFinal "FogNets$Chain" "FogNets$Chain" "links" "Ljava/util/ArrayList;") ∈ lw_all := lw_g (lw_at lw_m4 2 rfl) rfl
theorem q815 : (Jvm.Cond.soleField "FogNets$Chain" "links") ∈ lw_all := lw_g (lw_at lw_m4 3 rfl) rfl
theorem q816 : (Jvm.Cond.superclass "FogNets$Chain" "FogNets$Expression") ∈ lw_all := lw_g (lw_at lw_m4 4 rfl) rfl
theorem q863 : (Jvm.Cond.selects "FogNets$Chain" ({ cls := "java/lang/Object", name := "getClass", desc := "()Ljava/lang/Class;" } : Jvm.MethodName) ({ cls := "java/lang/Object", name := "getClass", desc := "()Ljava/lang/Class;" } : Jvm.MethodName)) ∈ lw_all := lw_g (lw_at lw_m4 51 rfl) rfl
theorem q1135 : (Jvm.Cond.selects "FogNets$Chain" ({ cls := "FogNets$Expression", name := "of", desc := "(LFogNets$Facts;)I" } : Jvm.MethodName) ({ cls := "FogNets$Chain", name := "of", desc := "(LFogNets$Facts;)I" } : Jvm.MethodName)) ∈ lw_all := lw_g (lw_at lw_m5 83 rfl) rfl
theorem q1136 : (Jvm.Cond.instanceMethod ({ cls := "FogNets$Chain", name := "of", desc := "(LFogNets$Facts;)I" } : Jvm.MethodName)) ∈ lw_all := lw_g (lw_at lw_m5 84 rfl) rfl
theorem q1137 : (Jvm.Cond.code ({ cls := "FogNets$Chain", name := "of", desc := "(LFogNets$Facts;)I" } : Jvm.MethodName) prog_4_method_2_code (4 : Nat) (Option.some Jvm.ClassFile.FieldType.int)) ∈ lw_all := lw_g (lw_at lw_m5 85 rfl) rfl
theorem q1138 : (Jvm.Cond.methodLink "FogNets$Chain" (22 : Nat) ({ cls := "FogNets$Expression", name := "of", desc := "(LFogNets$Facts;)I" } : Jvm.MethodName)) ∈ lw_all := lw_g (lw_at lw_m5 86 rfl) rfl
theorem q1146 : (Jvm.Cond.methodLink "FogNets$Chain" (26 : Nat) ({ cls := "java/util/ArrayList", name := "size", desc := "()I" } : Jvm.MethodName)) ∈ lw_all := lw_g (lw_at lw_m5 94 rfl) rfl
theorem q1147 : (Jvm.Cond.methodLink "FogNets$Chain" (30 : Nat) ({ cls := "java/util/ArrayList", name := "get", desc := "(I)Ljava/lang/Object;" } : Jvm.MethodName)) ∈ lw_all := lw_g (lw_at lw_m5 95 rfl) rfl
theorem q1148 : (Jvm.Cond.classLink "FogNets$Chain" (34 : Nat) "FogNets$Link") ∈ lw_all := lw_g (lw_at lw_m5 96 rfl) rfl
theorem q1149 : (Jvm.Cond.methodLink "FogNets$Chain" (36 : Nat) ({ cls := "FogNets$Link", name := "on", desc := "(ILFogNets$Facts;)I" } : Jvm.MethodName)) ∈ lw_all := lw_g (lw_at lw_m5 97 rfl) rfl
theorem q2077 : (Jvm.Cond.castable "FogNets$Chain" "java/lang/Object") ∈ lw_tbl := lw_at lw_m9 65 rfl
theorem in_X14 : ∀ w ∈ wsX140, w ∈ lw_all := lw_in wsX140 [812, 814] (by decide +kernel) (by decide +kernel)

/-! FogNets$Link -/
set_option maxRecDepth 100000
def RX15 : String := "FogNets$Link"
abbrev cX15_init : ByteArray := prog_11_method_1_code
def yX15_init : MethodName := ⟨RX15, "<init>", "(LFogNets$Expression;)V"⟩
def dkwX15_init_0 : List UInt8 := [42, 183, 0, 1, 42, 43, 181, 0, 7, 177]
abbrev dktX15_init_0 : List UInt8 := dkwX15_init_0 ++ []
theorem dksX15_init_0 : cX15_init.data.toList.drop 0 = dktX15_init_0 := by decide +kernel
theorem dX15_init_0 : decode cX15_init 0 = .ok (.aload_n 0, 1) := dk_42 (dk_at dksX15_init_0 0 rfl rfl)
theorem dX15_init_1 : decode cX15_init 1 = .ok (.invokespecial 1, 3) := dk_183 0 1 (dk_at dksX15_init_0 1 rfl rfl)
theorem dX15_init_4 : decode cX15_init 4 = .ok (.aload_n 0, 1) := dk_42 (dk_at dksX15_init_0 4 rfl rfl)
theorem dX15_init_5 : decode cX15_init 5 = .ok (.aload_n 1, 1) := dk_43 (dk_at dksX15_init_0 5 rfl rfl)
theorem dX15_init_6 : decode cX15_init 6 = .ok (.putfield 7, 3) := dk_181 0 7 (dk_at dksX15_init_0 6 rfl rfl)
theorem dX15_init_9 : decode cX15_init 9 = .ok (.return_, 1) := dk_177 (dk_at dksX15_init_0 9 rfl rfl)
abbrev cX15_on : ByteArray := prog_11_method_3_code
def yX15_on : MethodName := ⟨RX15, "on", "(ILFogNets$Facts;)I"⟩
def dkwX15_on_0 : List UInt8 := [42, 27, 42, 180, 0, 7, 44, 182, 0, 13, 182, 0, 19, 172]
abbrev dktX15_on_0 : List UInt8 := dkwX15_on_0 ++ []
theorem dksX15_on_0 : cX15_on.data.toList.drop 0 = dktX15_on_0 := by decide +kernel
theorem dX15_on_0 : decode cX15_on 0 = .ok (.aload_n 0, 1) := dk_42 (dk_at dksX15_on_0 0 rfl rfl)
theorem dX15_on_1 : decode cX15_on 1 = .ok (.iload_n 1, 1) := dk_27 (dk_at dksX15_on_0 1 rfl rfl)
theorem dX15_on_2 : decode cX15_on 2 = .ok (.aload_n 0, 1) := dk_42 (dk_at dksX15_on_0 2 rfl rfl)
theorem dX15_on_3 : decode cX15_on 3 = .ok (.getfield 7, 3) := dk_180 0 7 (dk_at dksX15_on_0 3 rfl rfl)
theorem dX15_on_6 : decode cX15_on 6 = .ok (.aload_n 2, 1) := dk_44 (dk_at dksX15_on_0 6 rfl rfl)
theorem dX15_on_7 : decode cX15_on 7 = .ok (.invokevirtual 13, 3) := dk_182 0 13 (dk_at dksX15_on_0 7 rfl rfl)
theorem dX15_on_10 : decode cX15_on 10 = .ok (.invokevirtual 19, 3) := dk_182 0 19 (dk_at dksX15_on_0 10 rfl rfl)
theorem dX15_on_13 : decode cX15_on 13 = .ok (.ireturn, 1) := dk_172 (dk_at dksX15_on_0 13 rfl rfl)
theorem q119 : (Jvm.Cond.initialized "FogNets$Link") ∈ lw_all := lw_g (lw_at lw_m1 27 rfl) rfl
theorem q823 : (Jvm.Cond.instanceMethod ({ cls := "FogNets$Link", name := "<init>", desc := "(LFogNets$Expression;)V" } : Jvm.MethodName)) ∈ lw_all := lw_g (lw_at lw_m4 11 rfl) rfl
theorem q824 : (Jvm.Cond.code ({ cls := "FogNets$Link", name := "<init>", desc := "(LFogNets$Expression;)V" } : Jvm.MethodName) prog_11_method_1_code (2 : Nat) (Option.none : Option Jvm.ClassFile.FieldType)) ∈ lw_all := lw_g (lw_at lw_m4 12 rfl) rfl
theorem q825 : (Jvm.Cond.methodLink "FogNets$Link" (1 : Nat) ({ cls := "java/lang/Object", name := "<init>", desc := "()V" } : Jvm.MethodName)) ∈ lw_all := lw_g (lw_at lw_m4 13 rfl) rfl
theorem q826 : (Jvm.Cond.fieldLink "FogNets$Link" (7 : Nat) "FogNets$Link" "e" "LFogNets$Expression;") ∈ lw_all := lw_g (lw_at lw_m4 14 rfl) rfl
theorem q828 : (Jvm.Cond.soleField "FogNets$Link" "e") ∈ lw_all := lw_g (lw_at lw_m4 16 rfl) rfl
theorem q1150 : (Jvm.Cond.instanceMethod ({ cls := "FogNets$Link", name := "on", desc := "(ILFogNets$Facts;)I" } : Jvm.MethodName)) ∈ lw_all := lw_g (lw_at lw_m5 98 rfl) rfl
theorem q1151 : (Jvm.Cond.sameMethod "FogNets$Link" "FogNets$Link" "on" "(ILFogNets$Facts;)I") ∈ lw_all := lw_g (lw_at lw_m5 99 rfl) rfl
theorem q1159 : (Jvm.Cond.code ({ cls := "FogNets$Link", name := "on", desc := "(ILFogNets$Facts;)I" } : Jvm.MethodName) prog_11_method_3_code (3 : Nat) (Option.some Jvm.ClassFile.FieldType.int)) ∈ lw_all := lw_g (lw_at lw_m5 107 rfl) rfl
theorem q1160 : (Jvm.Cond.methodLink "FogNets$Link" (13 : Nat) ({ cls := "FogNets$Expression", name := "of", desc := "(LFogNets$Facts;)I" } : Jvm.MethodName)) ∈ lw_all := lw_g (lw_at lw_m5 108 rfl) rfl
theorem q1161 : (Jvm.Cond.methodLink "FogNets$Link" (19 : Nat) ({ cls := "FogNets$Link", name := "with", desc := "(II)I" } : Jvm.MethodName)) ∈ lw_all := lw_g (lw_at lw_m5 109 rfl) rfl
theorem q1162 : (Jvm.Cond.declares ({ cls := "FogNets$Link", name := "with", desc := "(II)I" } : Jvm.MethodName)) ∈ lw_tbl := lw_at lw_m5 110 rfl
theorem q1163 : (Jvm.Cond.sameMethod "FogNets$Link" "FogNets$Link" "with" "(II)I") ∈ lw_all := lw_g (lw_at lw_m5 111 rfl) rfl

/-! FogNets$Times -/
set_option maxRecDepth 100000
def RX16 : String := "FogNets$Times"
def TX16 : u_T := fun k => match k with
  | _ => ("FogNets$Link", "e", "LFogNets$Expression;", true)
def tyX16 : Nat → FieldType := fun k => match k with
  | _ => .object "FogNets$Expression"
abbrev wsX160 : List Cond := u_ws RX16 TX16 1
theorem nmX16 : ∀ a, a < 1 → ∀ b, b < 1 → a ≠ b → (TX16 a).2.1 ≠ (TX16 b).2.1 := by decide +kernel
theorem tyX16_ok : ∀ k, k < 1 → parseFieldDescriptor (TX16 k).2.2.1 = some (tyX16 k) := by decide +kernel
abbrev cX16_init : ByteArray := prog_26_method_1_code
def yX16_init : MethodName := ⟨RX16, "<init>", "(LFogNets$Expression;)V"⟩
def dkwX16_init_0 : List UInt8 := [42, 43, 183, 0, 1, 177]
abbrev dktX16_init_0 : List UInt8 := dkwX16_init_0 ++ []
theorem dksX16_init_0 : cX16_init.data.toList.drop 0 = dktX16_init_0 := by decide +kernel
theorem dX16_init_0 : decode cX16_init 0 = .ok (.aload_n 0, 1) := dk_42 (dk_at dksX16_init_0 0 rfl rfl)
theorem dX16_init_1 : decode cX16_init 1 = .ok (.aload_n 1, 1) := dk_43 (dk_at dksX16_init_0 1 rfl rfl)
theorem dX16_init_2 : decode cX16_init 2 = .ok (.invokespecial 1, 3) := dk_183 0 1 (dk_at dksX16_init_0 2 rfl rfl)
theorem dX16_init_5 : decode cX16_init 5 = .ok (.return_, 1) := dk_177 (dk_at dksX16_init_0 5 rfl rfl)
abbrev cX16_with : ByteArray := prog_26_method_2_code
def yX16_with : MethodName := ⟨RX16, "with", "(II)I"⟩
def dkwX16_with_0 : List UInt8 := [27, 28, 104, 172]
abbrev dktX16_with_0 : List UInt8 := dkwX16_with_0 ++ []
theorem dksX16_with_0 : cX16_with.data.toList.drop 0 = dktX16_with_0 := by decide +kernel
theorem dX16_with_0 : decode cX16_with 0 = .ok (.iload_n 1, 1) := dk_27 (dk_at dksX16_with_0 0 rfl rfl)
theorem dX16_with_1 : decode cX16_with 1 = .ok (.iload_n 2, 1) := dk_28 (dk_at dksX16_with_0 1 rfl rfl)
theorem dX16_with_2 : decode cX16_with 2 = .ok (.imul, 1) := dk_104 (dk_at dksX16_with_0 2 rfl rfl)
theorem dX16_with_3 : decode cX16_with 3 = .ok (.ireturn, 1) := dk_172 (dk_at dksX16_with_0 3 rfl rfl)
theorem q120 : (Jvm.Cond.initialized "FogNets$Times") ∈ lw_all := lw_g (lw_at lw_m1 28 rfl) rfl
theorem q818 : (Jvm.Cond.instantiable "FogNets$Times" (1 : Nat)) ∈ lw_all := lw_g (lw_at lw_m4 6 rfl) rfl
theorem q820 : (Jvm.Cond.instanceMethod ({ cls := "FogNets$Times", name := "<init>", desc := "(LFogNets$Expression;)V" } : Jvm.MethodName)) ∈ lw_all := lw_g (lw_at lw_m4 8 rfl) rfl
theorem q821 : (Jvm.Cond.code ({ cls := "FogNets$Times", name := "<init>", desc := "(LFogNets$Expression;)V" } : Jvm.MethodName) prog_26_method_1_code (2 : Nat) (Option.none : Option Jvm.ClassFile.FieldType)) ∈ lw_all := lw_g (lw_at lw_m4 9 rfl) rfl
theorem q822 : (Jvm.Cond.methodLink "FogNets$Times" (1 : Nat) ({ cls := "FogNets$Link", name := "<init>", desc := "(LFogNets$Expression;)V" } : Jvm.MethodName)) ∈ lw_all := lw_g (lw_at lw_m4 10 rfl) rfl
theorem q827 : (Jvm.Cond.laysFinal "FogNets$Times" "FogNets$Link" "e" "LFogNets$Expression;") ∈ lw_all := lw_g (lw_at lw_m4 15 rfl) rfl
theorem q829 : (Jvm.Cond.superclass "FogNets$Times" "FogNets$Link") ∈ lw_all := lw_g (lw_at lw_m4 17 rfl) rfl
theorem q883 : (Jvm.Cond.selects "FogNets$Times" ({ cls := "java/lang/Object", name := "getClass", desc := "()Ljava/lang/Class;" } : Jvm.MethodName) ({ cls := "java/lang/Object", name := "getClass", desc := "()Ljava/lang/Class;" } : Jvm.MethodName)) ∈ lw_all := lw_g (lw_at lw_m4 71 rfl) rfl
theorem q1158 : (Jvm.Cond.selects "FogNets$Times" ({ cls := "FogNets$Link", name := "on", desc := "(ILFogNets$Facts;)I" } : Jvm.MethodName) ({ cls := "FogNets$Link", name := "on", desc := "(ILFogNets$Facts;)I" } : Jvm.MethodName)) ∈ lw_all := lw_g (lw_at lw_m5 106 rfl) rfl
theorem q1182 : (Jvm.Cond.selects "FogNets$Times" ({ cls := "FogNets$Link", name := "with", desc := "(II)I" } : Jvm.MethodName) ({ cls := "FogNets$Times", name := "with", desc := "(II)I" } : Jvm.MethodName)) ∈ lw_all := lw_g (lw_at lw_m5 130 rfl) rfl
theorem q1183 : (Jvm.Cond.instanceMethod ({ cls := "FogNets$Times", name := "with", desc := "(II)I" } : Jvm.MethodName)) ∈ lw_all := lw_g (lw_at lw_m5 131 rfl) rfl
theorem q1184 : (Jvm.Cond.code ({ cls := "FogNets$Times", name := "with", desc := "(II)I" } : Jvm.MethodName) prog_26_method_2_code (3 : Nat) (Option.some Jvm.ClassFile.FieldType.int)) ∈ lw_all := lw_g (lw_at lw_m5 132 rfl) rfl
theorem q2060 : (Jvm.Cond.castable "FogNets$Times" "FogNets$Link") ∈ lw_tbl := lw_at lw_m9 48 rfl
theorem q2078 : (Jvm.Cond.castable "FogNets$Times" "java/lang/Object") ∈ lw_tbl := lw_at lw_m9 66 rfl
theorem in_X16 : ∀ w ∈ wsX160, w ∈ lw_all := lw_in wsX160 [827] (by decide +kernel) (by decide +kernel)

/-! FogNets$Plus -/
set_option maxRecDepth 100000
def RX17 : String := "FogNets$Plus"
def TX17 : u_T := fun k => match k with
  | _ => ("FogNets$Link", "e", "LFogNets$Expression;", true)
def tyX17 : Nat → FieldType := fun k => match k with
  | _ => .object "FogNets$Expression"
abbrev wsX170 : List Cond := u_ws RX17 TX17 1
theorem nmX17 : ∀ a, a < 1 → ∀ b, b < 1 → a ≠ b → (TX17 a).2.1 ≠ (TX17 b).2.1 := by decide +kernel
theorem tyX17_ok : ∀ k, k < 1 → parseFieldDescriptor (TX17 k).2.2.1 = some (tyX17 k) := by decide +kernel
abbrev cX17_init : ByteArray := prog_18_method_1_code
def yX17_init : MethodName := ⟨RX17, "<init>", "(LFogNets$Expression;)V"⟩
def dkwX17_init_0 : List UInt8 := [42, 43, 183, 0, 1, 177]
abbrev dktX17_init_0 : List UInt8 := dkwX17_init_0 ++ []
theorem dksX17_init_0 : cX17_init.data.toList.drop 0 = dktX17_init_0 := by decide +kernel
theorem dX17_init_0 : decode cX17_init 0 = .ok (.aload_n 0, 1) := dk_42 (dk_at dksX17_init_0 0 rfl rfl)
theorem dX17_init_1 : decode cX17_init 1 = .ok (.aload_n 1, 1) := dk_43 (dk_at dksX17_init_0 1 rfl rfl)
theorem dX17_init_2 : decode cX17_init 2 = .ok (.invokespecial 1, 3) := dk_183 0 1 (dk_at dksX17_init_0 2 rfl rfl)
theorem dX17_init_5 : decode cX17_init 5 = .ok (.return_, 1) := dk_177 (dk_at dksX17_init_0 5 rfl rfl)
abbrev cX17_with : ByteArray := prog_18_method_2_code
def yX17_with : MethodName := ⟨RX17, "with", "(II)I"⟩
def dkwX17_with_0 : List UInt8 := [27, 28, 96, 172]
abbrev dktX17_with_0 : List UInt8 := dkwX17_with_0 ++ []
theorem dksX17_with_0 : cX17_with.data.toList.drop 0 = dktX17_with_0 := by decide +kernel
theorem dX17_with_0 : decode cX17_with 0 = .ok (.iload_n 1, 1) := dk_27 (dk_at dksX17_with_0 0 rfl rfl)
theorem dX17_with_1 : decode cX17_with 1 = .ok (.iload_n 2, 1) := dk_28 (dk_at dksX17_with_0 1 rfl rfl)
theorem dX17_with_2 : decode cX17_with 2 = .ok (.iadd, 1) := dk_96 (dk_at dksX17_with_0 2 rfl rfl)
theorem dX17_with_3 : decode cX17_with 3 = .ok (.ireturn, 1) := dk_172 (dk_at dksX17_with_0 3 rfl rfl)
theorem q124 : (Jvm.Cond.initialized "FogNets$Plus") ∈ lw_all := lw_g (lw_at lw_m1 32 rfl) rfl
theorem q875 : (Jvm.Cond.selects "FogNets$Plus" ({ cls := "java/lang/Object", name := "getClass", desc := "()Ljava/lang/Class;" } : Jvm.MethodName) ({ cls := "java/lang/Object", name := "getClass", desc := "()Ljava/lang/Class;" } : Jvm.MethodName)) ∈ lw_all := lw_g (lw_at lw_m4 63 rfl) rfl
theorem q902 : (Jvm.Cond.instantiable "FogNets$Plus" (1 : Nat)) ∈ lw_all := lw_g (lw_at lw_m4 90 rfl) rfl
theorem q904 : (Jvm.Cond.instanceMethod ({ cls := "FogNets$Plus", name := "<init>", desc := "(LFogNets$Expression;)V" } : Jvm.MethodName)) ∈ lw_all := lw_g (lw_at lw_m4 92 rfl) rfl
theorem q905 : (Jvm.Cond.code ({ cls := "FogNets$Plus", name := "<init>", desc := "(LFogNets$Expression;)V" } : Jvm.MethodName) prog_18_method_1_code (2 : Nat) (Option.none : Option Jvm.ClassFile.FieldType)) ∈ lw_all := lw_g (lw_at lw_m4 93 rfl) rfl
theorem q906 : (Jvm.Cond.methodLink "FogNets$Plus" (1 : Nat) ({ cls := "FogNets$Link", name := "<init>", desc := "(LFogNets$Expression;)V" } : Jvm.MethodName)) ∈ lw_all := lw_g (lw_at lw_m4 94 rfl) rfl
theorem q907 : (Jvm.Cond.laysFinal "FogNets$Plus" "FogNets$Link" "e" "LFogNets$Expression;") ∈ lw_all := lw_g (lw_at lw_m4 95 rfl) rfl
theorem q908 : (Jvm.Cond.superclass "FogNets$Plus" "FogNets$Link") ∈ lw_all := lw_g (lw_at lw_m4 96 rfl) rfl
theorem q1156 : (Jvm.Cond.selects "FogNets$Plus" ({ cls := "FogNets$Link", name := "on", desc := "(ILFogNets$Facts;)I" } : Jvm.MethodName) ({ cls := "FogNets$Link", name := "on", desc := "(ILFogNets$Facts;)I" } : Jvm.MethodName)) ∈ lw_all := lw_g (lw_at lw_m5 104 rfl) rfl
theorem q1176 : (Jvm.Cond.selects "FogNets$Plus" ({ cls := "FogNets$Link", name := "with", desc := "(II)I" } : Jvm.MethodName) ({ cls := "FogNets$Plus", name := "with", desc := "(II)I" } : Jvm.MethodName)) ∈ lw_all := lw_g (lw_at lw_m5 124 rfl) rfl
theorem q1177 : (Jvm.Cond.instanceMethod ({ cls := "FogNets$Plus", name := "with", desc := "(II)I" } : Jvm.MethodName)) ∈ lw_all := lw_g (lw_at lw_m5 125 rfl) rfl
theorem q1178 : (Jvm.Cond.code ({ cls := "FogNets$Plus", name := "with", desc := "(II)I" } : Jvm.MethodName) prog_18_method_2_code (3 : Nat) (Option.some Jvm.ClassFile.FieldType.int)) ∈ lw_all := lw_g (lw_at lw_m5 126 rfl) rfl
theorem q2058 : (Jvm.Cond.castable "FogNets$Plus" "FogNets$Link") ∈ lw_tbl := lw_at lw_m9 46 rfl
theorem q2079 : (Jvm.Cond.castable "FogNets$Plus" "java/lang/Object") ∈ lw_tbl := lw_at lw_m9 67 rfl
theorem in_X17 : ∀ w ∈ wsX170, w ∈ lw_all := lw_in wsX170 [907] (by decide +kernel) (by decide +kernel)

/-! FogNets$Minus -/
set_option maxRecDepth 100000
def RX18 : String := "FogNets$Minus"
def TX18 : u_T := fun k => match k with
  | _ => ("FogNets$Link", "e", "LFogNets$Expression;", true)
def tyX18 : Nat → FieldType := fun k => match k with
  | _ => .object "FogNets$Expression"
abbrev wsX180 : List Cond := u_ws RX18 TX18 1
theorem nmX18 : ∀ a, a < 1 → ∀ b, b < 1 → a ≠ b → (TX18 a).2.1 ≠ (TX18 b).2.1 := by decide +kernel
theorem tyX18_ok : ∀ k, k < 1 → parseFieldDescriptor (TX18 k).2.2.1 = some (tyX18 k) := by decide +kernel
abbrev cX18_init : ByteArray := prog_13_method_1_code
def yX18_init : MethodName := ⟨RX18, "<init>", "(LFogNets$Expression;)V"⟩
def dkwX18_init_0 : List UInt8 := [42, 43, 183, 0, 1, 177]
abbrev dktX18_init_0 : List UInt8 := dkwX18_init_0 ++ []
theorem dksX18_init_0 : cX18_init.data.toList.drop 0 = dktX18_init_0 := by decide +kernel
theorem dX18_init_0 : decode cX18_init 0 = .ok (.aload_n 0, 1) := dk_42 (dk_at dksX18_init_0 0 rfl rfl)
theorem dX18_init_1 : decode cX18_init 1 = .ok (.aload_n 1, 1) := dk_43 (dk_at dksX18_init_0 1 rfl rfl)
theorem dX18_init_2 : decode cX18_init 2 = .ok (.invokespecial 1, 3) := dk_183 0 1 (dk_at dksX18_init_0 2 rfl rfl)
theorem dX18_init_5 : decode cX18_init 5 = .ok (.return_, 1) := dk_177 (dk_at dksX18_init_0 5 rfl rfl)
abbrev cX18_with : ByteArray := prog_13_method_2_code
def yX18_with : MethodName := ⟨RX18, "with", "(II)I"⟩
def dkwX18_with_0 : List UInt8 := [27, 28, 100, 172]
abbrev dktX18_with_0 : List UInt8 := dkwX18_with_0 ++ []
theorem dksX18_with_0 : cX18_with.data.toList.drop 0 = dktX18_with_0 := by decide +kernel
theorem dX18_with_0 : decode cX18_with 0 = .ok (.iload_n 1, 1) := dk_27 (dk_at dksX18_with_0 0 rfl rfl)
theorem dX18_with_1 : decode cX18_with 1 = .ok (.iload_n 2, 1) := dk_28 (dk_at dksX18_with_0 1 rfl rfl)
theorem dX18_with_2 : decode cX18_with 2 = .ok (.isub, 1) := dk_100 (dk_at dksX18_with_0 2 rfl rfl)
theorem dX18_with_3 : decode cX18_with 3 = .ok (.ireturn, 1) := dk_172 (dk_at dksX18_with_0 3 rfl rfl)
theorem q125 : (Jvm.Cond.initialized "FogNets$Minus") ∈ lw_all := lw_g (lw_at lw_m1 33 rfl) rfl
theorem q870 : (Jvm.Cond.selects "FogNets$Minus" ({ cls := "java/lang/Object", name := "getClass", desc := "()Ljava/lang/Class;" } : Jvm.MethodName) ({ cls := "java/lang/Object", name := "getClass", desc := "()Ljava/lang/Class;" } : Jvm.MethodName)) ∈ lw_all := lw_g (lw_at lw_m4 58 rfl) rfl
theorem q910 : (Jvm.Cond.instantiable "FogNets$Minus" (1 : Nat)) ∈ lw_all := lw_g (lw_at lw_m4 98 rfl) rfl
theorem q912 : (Jvm.Cond.instanceMethod ({ cls := "FogNets$Minus", name := "<init>", desc := "(LFogNets$Expression;)V" } : Jvm.MethodName)) ∈ lw_all := lw_g (lw_at lw_m4 100 rfl) rfl
theorem q913 : (Jvm.Cond.code ({ cls := "FogNets$Minus", name := "<init>", desc := "(LFogNets$Expression;)V" } : Jvm.MethodName) prog_13_method_1_code (2 : Nat) (Option.none : Option Jvm.ClassFile.FieldType)) ∈ lw_all := lw_g (lw_at lw_m4 101 rfl) rfl
theorem q914 : (Jvm.Cond.methodLink "FogNets$Minus" (1 : Nat) ({ cls := "FogNets$Link", name := "<init>", desc := "(LFogNets$Expression;)V" } : Jvm.MethodName)) ∈ lw_all := lw_g (lw_at lw_m4 102 rfl) rfl
theorem q915 : (Jvm.Cond.laysFinal "FogNets$Minus" "FogNets$Link" "e" "LFogNets$Expression;") ∈ lw_all := lw_g (lw_at lw_m4 103 rfl) rfl
theorem q916 : (Jvm.Cond.superclass "FogNets$Minus" "FogNets$Link") ∈ lw_all := lw_g (lw_at lw_m4 104 rfl) rfl
theorem q1154 : (Jvm.Cond.selects "FogNets$Minus" ({ cls := "FogNets$Link", name := "on", desc := "(ILFogNets$Facts;)I" } : Jvm.MethodName) ({ cls := "FogNets$Link", name := "on", desc := "(ILFogNets$Facts;)I" } : Jvm.MethodName)) ∈ lw_all := lw_g (lw_at lw_m5 102 rfl) rfl
theorem q1170 : (Jvm.Cond.selects "FogNets$Minus" ({ cls := "FogNets$Link", name := "with", desc := "(II)I" } : Jvm.MethodName) ({ cls := "FogNets$Minus", name := "with", desc := "(II)I" } : Jvm.MethodName)) ∈ lw_all := lw_g (lw_at lw_m5 118 rfl) rfl
theorem q1171 : (Jvm.Cond.instanceMethod ({ cls := "FogNets$Minus", name := "with", desc := "(II)I" } : Jvm.MethodName)) ∈ lw_all := lw_g (lw_at lw_m5 119 rfl) rfl
theorem q1172 : (Jvm.Cond.code ({ cls := "FogNets$Minus", name := "with", desc := "(II)I" } : Jvm.MethodName) prog_13_method_2_code (3 : Nat) (Option.some Jvm.ClassFile.FieldType.int)) ∈ lw_all := lw_g (lw_at lw_m5 120 rfl) rfl
theorem q2056 : (Jvm.Cond.castable "FogNets$Minus" "FogNets$Link") ∈ lw_tbl := lw_at lw_m9 44 rfl
theorem q2080 : (Jvm.Cond.castable "FogNets$Minus" "java/lang/Object") ∈ lw_tbl := lw_at lw_m9 68 rfl
theorem in_X18 : ∀ w ∈ wsX180, w ∈ lw_all := lw_in wsX180 [915] (by decide +kernel) (by decide +kernel)

/-! FogNets$Less -/
set_option maxRecDepth 100000
def RX19 : String := "FogNets$Less"
def TX19 : u_T := fun k => match k with
  | _ => ("FogNets$Link", "e", "LFogNets$Expression;", true)
def tyX19 : Nat → FieldType := fun k => match k with
  | _ => .object "FogNets$Expression"
abbrev wsX190 : List Cond := u_ws RX19 TX19 1
theorem nmX19 : ∀ a, a < 1 → ∀ b, b < 1 → a ≠ b → (TX19 a).2.1 ≠ (TX19 b).2.1 := by decide +kernel
theorem tyX19_ok : ∀ k, k < 1 → parseFieldDescriptor (TX19 k).2.2.1 = some (tyX19 k) := by decide +kernel
abbrev cX19_init : ByteArray := prog_10_method_1_code
def yX19_init : MethodName := ⟨RX19, "<init>", "(LFogNets$Expression;)V"⟩
def dkwX19_init_0 : List UInt8 := [42, 43, 183, 0, 1, 177]
abbrev dktX19_init_0 : List UInt8 := dkwX19_init_0 ++ []
theorem dksX19_init_0 : cX19_init.data.toList.drop 0 = dktX19_init_0 := by decide +kernel
theorem dX19_init_0 : decode cX19_init 0 = .ok (.aload_n 0, 1) := dk_42 (dk_at dksX19_init_0 0 rfl rfl)
theorem dX19_init_1 : decode cX19_init 1 = .ok (.aload_n 1, 1) := dk_43 (dk_at dksX19_init_0 1 rfl rfl)
theorem dX19_init_2 : decode cX19_init 2 = .ok (.invokespecial 1, 3) := dk_183 0 1 (dk_at dksX19_init_0 2 rfl rfl)
theorem dX19_init_5 : decode cX19_init 5 = .ok (.return_, 1) := dk_177 (dk_at dksX19_init_0 5 rfl rfl)
abbrev cX19_with : ByteArray := prog_10_method_2_code
def yX19_with : MethodName := ⟨RX19, "with", "(II)I"⟩
def dkwX19_with_0 : List UInt8 := [27, 28, 162, 0, 7, 4, 167, 0, 4, 3, 172]
abbrev dktX19_with_0 : List UInt8 := dkwX19_with_0 ++ []
theorem dksX19_with_0 : cX19_with.data.toList.drop 0 = dktX19_with_0 := by decide +kernel
theorem dX19_with_0 : decode cX19_with 0 = .ok (.iload_n 1, 1) := dk_27 (dk_at dksX19_with_0 0 rfl rfl)
theorem dX19_with_1 : decode cX19_with 1 = .ok (.iload_n 2, 1) := dk_28 (dk_at dksX19_with_0 1 rfl rfl)
theorem dX19_with_2 : decode cX19_with 2 = .ok (.if_icmp .ge 7, 3) := dk_162 0 7 (dk_at dksX19_with_0 2 rfl rfl)
theorem dX19_with_5 : decode cX19_with 5 = .ok (.iconst 1, 1) := dk_4 (dk_at dksX19_with_0 5 rfl rfl)
theorem dX19_with_6 : decode cX19_with 6 = .ok (.goto 4, 3) := dk_167 0 4 (dk_at dksX19_with_0 6 rfl rfl)
theorem dX19_with_9 : decode cX19_with 9 = .ok (.iconst 0, 1) := dk_3 (dk_at dksX19_with_0 9 rfl rfl)
theorem dX19_with_10 : decode cX19_with 10 = .ok (.ireturn, 1) := dk_172 (dk_at dksX19_with_0 10 rfl rfl)
theorem q126 : (Jvm.Cond.initialized "FogNets$Less") ∈ lw_all := lw_g (lw_at lw_m1 34 rfl) rfl
theorem q868 : (Jvm.Cond.selects "FogNets$Less" ({ cls := "java/lang/Object", name := "getClass", desc := "()Ljava/lang/Class;" } : Jvm.MethodName) ({ cls := "java/lang/Object", name := "getClass", desc := "()Ljava/lang/Class;" } : Jvm.MethodName)) ∈ lw_all := lw_g (lw_at lw_m4 56 rfl) rfl
theorem q918 : (Jvm.Cond.instantiable "FogNets$Less" (1 : Nat)) ∈ lw_all := lw_g (lw_at lw_m4 106 rfl) rfl
theorem q920 : (Jvm.Cond.instanceMethod ({ cls := "FogNets$Less", name := "<init>", desc := "(LFogNets$Expression;)V" } : Jvm.MethodName)) ∈ lw_all := lw_g (lw_at lw_m4 108 rfl) rfl
theorem q921 : (Jvm.Cond.code ({ cls := "FogNets$Less", name := "<init>", desc := "(LFogNets$Expression;)V" } : Jvm.MethodName) prog_10_method_1_code (2 : Nat) (Option.none : Option Jvm.ClassFile.FieldType)) ∈ lw_all := lw_g (lw_at lw_m4 109 rfl) rfl
theorem q922 : (Jvm.Cond.methodLink "FogNets$Less" (1 : Nat) ({ cls := "FogNets$Link", name := "<init>", desc := "(LFogNets$Expression;)V" } : Jvm.MethodName)) ∈ lw_all := lw_g (lw_at lw_m4 110 rfl) rfl
theorem q923 : (Jvm.Cond.laysFinal "FogNets$Less" "FogNets$Link" "e" "LFogNets$Expression;") ∈ lw_all := lw_g (lw_at lw_m4 111 rfl) rfl
theorem q924 : (Jvm.Cond.superclass "FogNets$Less" "FogNets$Link") ∈ lw_all := lw_g (lw_at lw_m4 112 rfl) rfl
theorem q1153 : (Jvm.Cond.selects "FogNets$Less" ({ cls := "FogNets$Link", name := "on", desc := "(ILFogNets$Facts;)I" } : Jvm.MethodName) ({ cls := "FogNets$Link", name := "on", desc := "(ILFogNets$Facts;)I" } : Jvm.MethodName)) ∈ lw_all := lw_g (lw_at lw_m5 101 rfl) rfl
theorem q1167 : (Jvm.Cond.selects "FogNets$Less" ({ cls := "FogNets$Link", name := "with", desc := "(II)I" } : Jvm.MethodName) ({ cls := "FogNets$Less", name := "with", desc := "(II)I" } : Jvm.MethodName)) ∈ lw_all := lw_g (lw_at lw_m5 115 rfl) rfl
theorem q1168 : (Jvm.Cond.instanceMethod ({ cls := "FogNets$Less", name := "with", desc := "(II)I" } : Jvm.MethodName)) ∈ lw_all := lw_g (lw_at lw_m5 116 rfl) rfl
theorem q1169 : (Jvm.Cond.code ({ cls := "FogNets$Less", name := "with", desc := "(II)I" } : Jvm.MethodName) prog_10_method_2_code (3 : Nat) (Option.some Jvm.ClassFile.FieldType.int)) ∈ lw_all := lw_g (lw_at lw_m5 117 rfl) rfl
theorem q2055 : (Jvm.Cond.castable "FogNets$Less" "FogNets$Link") ∈ lw_tbl := lw_at lw_m9 43 rfl
theorem q2081 : (Jvm.Cond.castable "FogNets$Less" "java/lang/Object") ∈ lw_tbl := lw_at lw_m9 69 rfl
theorem in_X19 : ∀ w ∈ wsX190, w ∈ lw_all := lw_in wsX190 [923] (by decide +kernel) (by decide +kernel)

/-! FogNets$Same -/
set_option maxRecDepth 100000
def RX20 : String := "FogNets$Same"
def TX20 : u_T := fun k => match k with
  | _ => ("FogNets$Link", "e", "LFogNets$Expression;", true)
def tyX20 : Nat → FieldType := fun k => match k with
  | _ => .object "FogNets$Expression"
abbrev wsX200 : List Cond := u_ws RX20 TX20 1
theorem nmX20 : ∀ a, a < 1 → ∀ b, b < 1 → a ≠ b → (TX20 a).2.1 ≠ (TX20 b).2.1 := by decide +kernel
theorem tyX20_ok : ∀ k, k < 1 → parseFieldDescriptor (TX20 k).2.2.1 = some (tyX20 k) := by decide +kernel
abbrev cX20_init : ByteArray := prog_21_method_1_code
def yX20_init : MethodName := ⟨RX20, "<init>", "(LFogNets$Expression;)V"⟩
def dkwX20_init_0 : List UInt8 := [42, 43, 183, 0, 1, 177]
abbrev dktX20_init_0 : List UInt8 := dkwX20_init_0 ++ []
theorem dksX20_init_0 : cX20_init.data.toList.drop 0 = dktX20_init_0 := by decide +kernel
theorem dX20_init_0 : decode cX20_init 0 = .ok (.aload_n 0, 1) := dk_42 (dk_at dksX20_init_0 0 rfl rfl)
theorem dX20_init_1 : decode cX20_init 1 = .ok (.aload_n 1, 1) := dk_43 (dk_at dksX20_init_0 1 rfl rfl)
theorem dX20_init_2 : decode cX20_init 2 = .ok (.invokespecial 1, 3) := dk_183 0 1 (dk_at dksX20_init_0 2 rfl rfl)
theorem dX20_init_5 : decode cX20_init 5 = .ok (.return_, 1) := dk_177 (dk_at dksX20_init_0 5 rfl rfl)
abbrev cX20_with : ByteArray := prog_21_method_2_code
def yX20_with : MethodName := ⟨RX20, "with", "(II)I"⟩
def dkwX20_with_0 : List UInt8 := [27, 28, 160, 0, 7, 4, 167, 0, 4, 3, 172]
abbrev dktX20_with_0 : List UInt8 := dkwX20_with_0 ++ []
theorem dksX20_with_0 : cX20_with.data.toList.drop 0 = dktX20_with_0 := by decide +kernel
theorem dX20_with_0 : decode cX20_with 0 = .ok (.iload_n 1, 1) := dk_27 (dk_at dksX20_with_0 0 rfl rfl)
theorem dX20_with_1 : decode cX20_with 1 = .ok (.iload_n 2, 1) := dk_28 (dk_at dksX20_with_0 1 rfl rfl)
theorem dX20_with_2 : decode cX20_with 2 = .ok (.if_icmp .ne 7, 3) := dk_160 0 7 (dk_at dksX20_with_0 2 rfl rfl)
theorem dX20_with_5 : decode cX20_with 5 = .ok (.iconst 1, 1) := dk_4 (dk_at dksX20_with_0 5 rfl rfl)
theorem dX20_with_6 : decode cX20_with 6 = .ok (.goto 4, 3) := dk_167 0 4 (dk_at dksX20_with_0 6 rfl rfl)
theorem dX20_with_9 : decode cX20_with 9 = .ok (.iconst 0, 1) := dk_3 (dk_at dksX20_with_0 9 rfl rfl)
theorem dX20_with_10 : decode cX20_with 10 = .ok (.ireturn, 1) := dk_172 (dk_at dksX20_with_0 10 rfl rfl)
theorem q127 : (Jvm.Cond.initialized "FogNets$Same") ∈ lw_all := lw_g (lw_at lw_m1 35 rfl) rfl
theorem q878 : (Jvm.Cond.selects "FogNets$Same" ({ cls := "java/lang/Object", name := "getClass", desc := "()Ljava/lang/Class;" } : Jvm.MethodName) ({ cls := "java/lang/Object", name := "getClass", desc := "()Ljava/lang/Class;" } : Jvm.MethodName)) ∈ lw_all := lw_g (lw_at lw_m4 66 rfl) rfl
theorem q926 : (Jvm.Cond.instantiable "FogNets$Same" (1 : Nat)) ∈ lw_all := lw_g (lw_at lw_m4 114 rfl) rfl
theorem q928 : (Jvm.Cond.instanceMethod ({ cls := "FogNets$Same", name := "<init>", desc := "(LFogNets$Expression;)V" } : Jvm.MethodName)) ∈ lw_all := lw_g (lw_at lw_m4 116 rfl) rfl
theorem q929 : (Jvm.Cond.code ({ cls := "FogNets$Same", name := "<init>", desc := "(LFogNets$Expression;)V" } : Jvm.MethodName) prog_21_method_1_code (2 : Nat) (Option.none : Option Jvm.ClassFile.FieldType)) ∈ lw_all := lw_g (lw_at lw_m4 117 rfl) rfl
theorem q930 : (Jvm.Cond.methodLink "FogNets$Same" (1 : Nat) ({ cls := "FogNets$Link", name := "<init>", desc := "(LFogNets$Expression;)V" } : Jvm.MethodName)) ∈ lw_all := lw_g (lw_at lw_m4 118 rfl) rfl
theorem q931 : (Jvm.Cond.laysFinal "FogNets$Same" "FogNets$Link" "e" "LFogNets$Expression;") ∈ lw_all := lw_g (lw_at lw_m4 119 rfl) rfl
theorem q932 : (Jvm.Cond.superclass "FogNets$Same" "FogNets$Link") ∈ lw_all := lw_g (lw_at lw_m4 120 rfl) rfl
theorem q1157 : (Jvm.Cond.selects "FogNets$Same" ({ cls := "FogNets$Link", name := "on", desc := "(ILFogNets$Facts;)I" } : Jvm.MethodName) ({ cls := "FogNets$Link", name := "on", desc := "(ILFogNets$Facts;)I" } : Jvm.MethodName)) ∈ lw_all := lw_g (lw_at lw_m5 105 rfl) rfl
theorem q1179 : (Jvm.Cond.selects "FogNets$Same" ({ cls := "FogNets$Link", name := "with", desc := "(II)I" } : Jvm.MethodName) ({ cls := "FogNets$Same", name := "with", desc := "(II)I" } : Jvm.MethodName)) ∈ lw_all := lw_g (lw_at lw_m5 127 rfl) rfl
theorem q1180 : (Jvm.Cond.instanceMethod ({ cls := "FogNets$Same", name := "with", desc := "(II)I" } : Jvm.MethodName)) ∈ lw_all := lw_g (lw_at lw_m5 128 rfl) rfl
theorem q1181 : (Jvm.Cond.code ({ cls := "FogNets$Same", name := "with", desc := "(II)I" } : Jvm.MethodName) prog_21_method_2_code (3 : Nat) (Option.some Jvm.ClassFile.FieldType.int)) ∈ lw_all := lw_g (lw_at lw_m5 129 rfl) rfl
theorem q2059 : (Jvm.Cond.castable "FogNets$Same" "FogNets$Link") ∈ lw_tbl := lw_at lw_m9 47 rfl
theorem q2082 : (Jvm.Cond.castable "FogNets$Same" "java/lang/Object") ∈ lw_tbl := lw_at lw_m9 70 rfl
theorem in_X20 : ∀ w ∈ wsX200, w ∈ lw_all := lw_in wsX200 [931] (by decide +kernel) (by decide +kernel)

/-! FogNets$And -/
set_option maxRecDepth 100000
def RX21 : String := "FogNets$And"
def TX21 : u_T := fun k => match k with
  | _ => ("FogNets$Link", "e", "LFogNets$Expression;", true)
def tyX21 : Nat → FieldType := fun k => match k with
  | _ => .object "FogNets$Expression"
abbrev wsX210 : List Cond := u_ws RX21 TX21 1
theorem nmX21 : ∀ a, a < 1 → ∀ b, b < 1 → a ≠ b → (TX21 a).2.1 ≠ (TX21 b).2.1 := by decide +kernel
theorem tyX21_ok : ∀ k, k < 1 → parseFieldDescriptor (TX21 k).2.2.1 = some (tyX21 k) := by decide +kernel
abbrev cX21_init : ByteArray := prog_2_method_1_code
def yX21_init : MethodName := ⟨RX21, "<init>", "(LFogNets$Expression;)V"⟩
def dkwX21_init_0 : List UInt8 := [42, 43, 183, 0, 1, 177]
abbrev dktX21_init_0 : List UInt8 := dkwX21_init_0 ++ []
theorem dksX21_init_0 : cX21_init.data.toList.drop 0 = dktX21_init_0 := by decide +kernel
theorem dX21_init_0 : decode cX21_init 0 = .ok (.aload_n 0, 1) := dk_42 (dk_at dksX21_init_0 0 rfl rfl)
theorem dX21_init_1 : decode cX21_init 1 = .ok (.aload_n 1, 1) := dk_43 (dk_at dksX21_init_0 1 rfl rfl)
theorem dX21_init_2 : decode cX21_init 2 = .ok (.invokespecial 1, 3) := dk_183 0 1 (dk_at dksX21_init_0 2 rfl rfl)
theorem dX21_init_5 : decode cX21_init 5 = .ok (.return_, 1) := dk_177 (dk_at dksX21_init_0 5 rfl rfl)
abbrev cX21_with : ByteArray := prog_2_method_2_code
def yX21_with : MethodName := ⟨RX21, "with", "(II)I"⟩
def dkwX21_with_0 : List UInt8 := [27, 153, 0, 11, 28, 153, 0, 7, 4, 167, 0, 4, 3, 172]
abbrev dktX21_with_0 : List UInt8 := dkwX21_with_0 ++ []
theorem dksX21_with_0 : cX21_with.data.toList.drop 0 = dktX21_with_0 := by decide +kernel
theorem dX21_with_0 : decode cX21_with 0 = .ok (.iload_n 1, 1) := dk_27 (dk_at dksX21_with_0 0 rfl rfl)
theorem dX21_with_1 : decode cX21_with 1 = .ok (.ifCond .eq 11, 3) := dk_153 0 11 (dk_at dksX21_with_0 1 rfl rfl)
theorem dX21_with_4 : decode cX21_with 4 = .ok (.iload_n 2, 1) := dk_28 (dk_at dksX21_with_0 4 rfl rfl)
theorem dX21_with_5 : decode cX21_with 5 = .ok (.ifCond .eq 7, 3) := dk_153 0 7 (dk_at dksX21_with_0 5 rfl rfl)
theorem dX21_with_8 : decode cX21_with 8 = .ok (.iconst 1, 1) := dk_4 (dk_at dksX21_with_0 8 rfl rfl)
theorem dX21_with_9 : decode cX21_with 9 = .ok (.goto 4, 3) := dk_167 0 4 (dk_at dksX21_with_0 9 rfl rfl)
theorem dX21_with_12 : decode cX21_with 12 = .ok (.iconst 0, 1) := dk_3 (dk_at dksX21_with_0 12 rfl rfl)
theorem dX21_with_13 : decode cX21_with 13 = .ok (.ireturn, 1) := dk_172 (dk_at dksX21_with_0 13 rfl rfl)
theorem q128 : (Jvm.Cond.initialized "FogNets$And") ∈ lw_all := lw_g (lw_at lw_m1 36 rfl) rfl
theorem q861 : (Jvm.Cond.selects "FogNets$And" ({ cls := "java/lang/Object", name := "getClass", desc := "()Ljava/lang/Class;" } : Jvm.MethodName) ({ cls := "java/lang/Object", name := "getClass", desc := "()Ljava/lang/Class;" } : Jvm.MethodName)) ∈ lw_all := lw_g (lw_at lw_m4 49 rfl) rfl
theorem q934 : (Jvm.Cond.instantiable "FogNets$And" (1 : Nat)) ∈ lw_all := lw_g (lw_at lw_m4 122 rfl) rfl
theorem q936 : (Jvm.Cond.instanceMethod ({ cls := "FogNets$And", name := "<init>", desc := "(LFogNets$Expression;)V" } : Jvm.MethodName)) ∈ lw_all := lw_g (lw_at lw_m4 124 rfl) rfl
theorem q937 : (Jvm.Cond.code ({ cls := "FogNets$And", name := "<init>", desc := "(LFogNets$Expression;)V" } : Jvm.MethodName) prog_2_method_1_code (2 : Nat) (Option.none : Option Jvm.ClassFile.FieldType)) ∈ lw_all := lw_g (lw_at lw_m4 125 rfl) rfl
theorem q938 : (Jvm.Cond.methodLink "FogNets$And" (1 : Nat) ({ cls := "FogNets$Link", name := "<init>", desc := "(LFogNets$Expression;)V" } : Jvm.MethodName)) ∈ lw_all := lw_g (lw_at lw_m4 126 rfl) rfl
theorem q939 : (Jvm.Cond.laysFinal "FogNets$And" "FogNets$Link" "e" "LFogNets$Expression;") ∈ lw_all := lw_g (lw_at lw_m4 127 rfl) rfl
theorem q940 : (Jvm.Cond.superclass "FogNets$And" "FogNets$Link") ∈ lw_all := lw_g (lw_at lw_m4 128 rfl) rfl
theorem q1152 : (Jvm.Cond.selects "FogNets$And" ({ cls := "FogNets$Link", name := "on", desc := "(ILFogNets$Facts;)I" } : Jvm.MethodName) ({ cls := "FogNets$Link", name := "on", desc := "(ILFogNets$Facts;)I" } : Jvm.MethodName)) ∈ lw_all := lw_g (lw_at lw_m5 100 rfl) rfl
theorem q1164 : (Jvm.Cond.selects "FogNets$And" ({ cls := "FogNets$Link", name := "with", desc := "(II)I" } : Jvm.MethodName) ({ cls := "FogNets$And", name := "with", desc := "(II)I" } : Jvm.MethodName)) ∈ lw_all := lw_g (lw_at lw_m5 112 rfl) rfl
theorem q1165 : (Jvm.Cond.instanceMethod ({ cls := "FogNets$And", name := "with", desc := "(II)I" } : Jvm.MethodName)) ∈ lw_all := lw_g (lw_at lw_m5 113 rfl) rfl
theorem q1166 : (Jvm.Cond.code ({ cls := "FogNets$And", name := "with", desc := "(II)I" } : Jvm.MethodName) prog_2_method_2_code (3 : Nat) (Option.some Jvm.ClassFile.FieldType.int)) ∈ lw_all := lw_g (lw_at lw_m5 114 rfl) rfl
theorem q2054 : (Jvm.Cond.castable "FogNets$And" "FogNets$Link") ∈ lw_tbl := lw_at lw_m9 42 rfl
theorem q2083 : (Jvm.Cond.castable "FogNets$And" "java/lang/Object") ∈ lw_tbl := lw_at lw_m9 71 rfl
theorem in_X21 : ∀ w ∈ wsX210, w ∈ lw_all := lw_in wsX210 [939] (by decide +kernel) (by decide +kernel)

/-! FogNets$Or -/
set_option maxRecDepth 100000
def RX22 : String := "FogNets$Or"
def TX22 : u_T := fun k => match k with
  | _ => ("FogNets$Link", "e", "LFogNets$Expression;", true)
def tyX22 : Nat → FieldType := fun k => match k with
  | _ => .object "FogNets$Expression"
abbrev wsX220 : List Cond := u_ws RX22 TX22 1
theorem nmX22 : ∀ a, a < 1 → ∀ b, b < 1 → a ≠ b → (TX22 a).2.1 ≠ (TX22 b).2.1 := by decide +kernel
theorem tyX22_ok : ∀ k, k < 1 → parseFieldDescriptor (TX22 k).2.2.1 = some (tyX22 k) := by decide +kernel
abbrev cX22_init : ByteArray := prog_16_method_1_code
def yX22_init : MethodName := ⟨RX22, "<init>", "(LFogNets$Expression;)V"⟩
def dkwX22_init_0 : List UInt8 := [42, 43, 183, 0, 1, 177]
abbrev dktX22_init_0 : List UInt8 := dkwX22_init_0 ++ []
theorem dksX22_init_0 : cX22_init.data.toList.drop 0 = dktX22_init_0 := by decide +kernel
theorem dX22_init_0 : decode cX22_init 0 = .ok (.aload_n 0, 1) := dk_42 (dk_at dksX22_init_0 0 rfl rfl)
theorem dX22_init_1 : decode cX22_init 1 = .ok (.aload_n 1, 1) := dk_43 (dk_at dksX22_init_0 1 rfl rfl)
theorem dX22_init_2 : decode cX22_init 2 = .ok (.invokespecial 1, 3) := dk_183 0 1 (dk_at dksX22_init_0 2 rfl rfl)
theorem dX22_init_5 : decode cX22_init 5 = .ok (.return_, 1) := dk_177 (dk_at dksX22_init_0 5 rfl rfl)
abbrev cX22_with : ByteArray := prog_16_method_2_code
def yX22_with : MethodName := ⟨RX22, "with", "(II)I"⟩
def dkwX22_with_0 : List UInt8 := [27, 154, 0, 7, 28, 153, 0, 7, 4, 167, 0, 4, 3, 172]
abbrev dktX22_with_0 : List UInt8 := dkwX22_with_0 ++ []
theorem dksX22_with_0 : cX22_with.data.toList.drop 0 = dktX22_with_0 := by decide +kernel
theorem dX22_with_0 : decode cX22_with 0 = .ok (.iload_n 1, 1) := dk_27 (dk_at dksX22_with_0 0 rfl rfl)
theorem dX22_with_1 : decode cX22_with 1 = .ok (.ifCond .ne 7, 3) := dk_154 0 7 (dk_at dksX22_with_0 1 rfl rfl)
theorem dX22_with_4 : decode cX22_with 4 = .ok (.iload_n 2, 1) := dk_28 (dk_at dksX22_with_0 4 rfl rfl)
theorem dX22_with_5 : decode cX22_with 5 = .ok (.ifCond .eq 7, 3) := dk_153 0 7 (dk_at dksX22_with_0 5 rfl rfl)
theorem dX22_with_8 : decode cX22_with 8 = .ok (.iconst 1, 1) := dk_4 (dk_at dksX22_with_0 8 rfl rfl)
theorem dX22_with_9 : decode cX22_with 9 = .ok (.goto 4, 3) := dk_167 0 4 (dk_at dksX22_with_0 9 rfl rfl)
theorem dX22_with_12 : decode cX22_with 12 = .ok (.iconst 0, 1) := dk_3 (dk_at dksX22_with_0 12 rfl rfl)
theorem dX22_with_13 : decode cX22_with 13 = .ok (.ireturn, 1) := dk_172 (dk_at dksX22_with_0 13 rfl rfl)
theorem q129 : (Jvm.Cond.initialized "FogNets$Or") ∈ lw_all := lw_g (lw_at lw_m1 37 rfl) rfl
theorem q873 : (Jvm.Cond.selects "FogNets$Or" ({ cls := "java/lang/Object", name := "getClass", desc := "()Ljava/lang/Class;" } : Jvm.MethodName) ({ cls := "java/lang/Object", name := "getClass", desc := "()Ljava/lang/Class;" } : Jvm.MethodName)) ∈ lw_all := lw_g (lw_at lw_m4 61 rfl) rfl
theorem q942 : (Jvm.Cond.instantiable "FogNets$Or" (1 : Nat)) ∈ lw_all := lw_g (lw_at lw_m4 130 rfl) rfl
theorem q944 : (Jvm.Cond.instanceMethod ({ cls := "FogNets$Or", name := "<init>", desc := "(LFogNets$Expression;)V" } : Jvm.MethodName)) ∈ lw_all := lw_g (lw_at lw_m4 132 rfl) rfl
theorem q945 : (Jvm.Cond.code ({ cls := "FogNets$Or", name := "<init>", desc := "(LFogNets$Expression;)V" } : Jvm.MethodName) prog_16_method_1_code (2 : Nat) (Option.none : Option Jvm.ClassFile.FieldType)) ∈ lw_all := lw_g (lw_at lw_m4 133 rfl) rfl
theorem q946 : (Jvm.Cond.methodLink "FogNets$Or" (1 : Nat) ({ cls := "FogNets$Link", name := "<init>", desc := "(LFogNets$Expression;)V" } : Jvm.MethodName)) ∈ lw_all := lw_g (lw_at lw_m4 134 rfl) rfl
theorem q947 : (Jvm.Cond.laysFinal "FogNets$Or" "FogNets$Link" "e" "LFogNets$Expression;") ∈ lw_all := lw_g (lw_at lw_m4 135 rfl) rfl
theorem q948 : (Jvm.Cond.superclass "FogNets$Or" "FogNets$Link") ∈ lw_all := lw_g (lw_at lw_m4 136 rfl) rfl
theorem q1155 : (Jvm.Cond.selects "FogNets$Or" ({ cls := "FogNets$Link", name := "on", desc := "(ILFogNets$Facts;)I" } : Jvm.MethodName) ({ cls := "FogNets$Link", name := "on", desc := "(ILFogNets$Facts;)I" } : Jvm.MethodName)) ∈ lw_all := lw_g (lw_at lw_m5 103 rfl) rfl
theorem q1173 : (Jvm.Cond.selects "FogNets$Or" ({ cls := "FogNets$Link", name := "with", desc := "(II)I" } : Jvm.MethodName) ({ cls := "FogNets$Or", name := "with", desc := "(II)I" } : Jvm.MethodName)) ∈ lw_all := lw_g (lw_at lw_m5 121 rfl) rfl
theorem q1174 : (Jvm.Cond.instanceMethod ({ cls := "FogNets$Or", name := "with", desc := "(II)I" } : Jvm.MethodName)) ∈ lw_all := lw_g (lw_at lw_m5 122 rfl) rfl
theorem q1175 : (Jvm.Cond.code ({ cls := "FogNets$Or", name := "with", desc := "(II)I" } : Jvm.MethodName) prog_16_method_2_code (3 : Nat) (Option.some Jvm.ClassFile.FieldType.int)) ∈ lw_all := lw_g (lw_at lw_m5 123 rfl) rfl
theorem q2057 : (Jvm.Cond.castable "FogNets$Or" "FogNets$Link") ∈ lw_tbl := lw_at lw_m9 45 rfl
theorem q2084 : (Jvm.Cond.castable "FogNets$Or" "java/lang/Object") ∈ lw_tbl := lw_at lw_m9 72 rfl
theorem in_X22 : ∀ w ∈ wsX220, w ∈ lw_all := lw_in wsX220 [947] (by decide +kernel) (by decide +kernel)

/-! FogNets$Net -/
set_option maxRecDepth 100000
def RX23 : String := "FogNets$Net"
def TX23 : u_T := fun k => match k with
  | 0 => ("FogNets$Net", "village", "I", true)
  | _ => ("FogNets$Net", "mesh", "I", true)
def tyX23 : Nat → FieldType := fun k => match k with
  | 0 => .int
  | _ => .int
abbrev wsX230 : List Cond := u_ws RX23 TX23 2
theorem nmX23 : ∀ a, a < 2 → ∀ b, b < 2 → a ≠ b → (TX23 a).2.1 ≠ (TX23 b).2.1 := by decide +kernel
theorem tyX23_ok : ∀ k, k < 2 → parseFieldDescriptor (TX23 k).2.2.1 = some (tyX23 k) := by decide +kernel
abbrev cX23_init : ByteArray := prog_14_method_1_code
def yX23_init : MethodName := ⟨RX23, "<init>", "(II)V"⟩
def dkwX23_init_0 : List UInt8 := [42, 183, 0, 3, 42, 27, 181, 0, 9, 42, 28, 181, 0, 15, 177]
abbrev dktX23_init_0 : List UInt8 := dkwX23_init_0 ++ []
theorem dksX23_init_0 : cX23_init.data.toList.drop 0 = dktX23_init_0 := by decide +kernel
theorem dX23_init_0 : decode cX23_init 0 = .ok (.aload_n 0, 1) := dk_42 (dk_at dksX23_init_0 0 rfl rfl)
theorem dX23_init_1 : decode cX23_init 1 = .ok (.invokespecial 3, 3) := dk_183 0 3 (dk_at dksX23_init_0 1 rfl rfl)
theorem dX23_init_4 : decode cX23_init 4 = .ok (.aload_n 0, 1) := dk_42 (dk_at dksX23_init_0 4 rfl rfl)
theorem dX23_init_5 : decode cX23_init 5 = .ok (.iload_n 1, 1) := dk_27 (dk_at dksX23_init_0 5 rfl rfl)
theorem dX23_init_6 : decode cX23_init 6 = .ok (.putfield 9, 3) := dk_181 0 9 (dk_at dksX23_init_0 6 rfl rfl)
theorem dX23_init_9 : decode cX23_init 9 = .ok (.aload_n 0, 1) := dk_42 (dk_at dksX23_init_0 9 rfl rfl)
theorem dX23_init_10 : decode cX23_init 10 = .ok (.iload_n 2, 1) := dk_28 (dk_at dksX23_init_0 10 rfl rfl)
theorem dX23_init_11 : decode cX23_init 11 = .ok (.putfield 15, 3) := dk_181 0 15 (dk_at dksX23_init_0 11 rfl rfl)
theorem dX23_init_14 : decode cX23_init 14 = .ok (.return_, 1) := dk_177 (dk_at dksX23_init_0 14 rfl rfl)
abbrev cX23_kind : ByteArray := prog_14_method_2_code
def yX23_kind : MethodName := ⟨RX23, "kind", "()I"⟩
theorem dX23_kind_0 : decode cX23_kind 0 = .ok (.iconst 0, 1) := by decide +kernel
theorem dX23_kind_1 : decode cX23_kind 1 = .ok (.ireturn, 1) := by decide +kernel
abbrev cX23_takes : ByteArray := prog_14_method_3_code
def yX23_takes : MethodName := ⟨RX23, "takes", "(IIZ)I"⟩
def dkwX23_takes_0 : List UInt8 := [27, 42, 180, 0, 15, 104, 16, 10, 108, 172]
abbrev dktX23_takes_0 : List UInt8 := dkwX23_takes_0 ++ []
theorem dksX23_takes_0 : cX23_takes.data.toList.drop 0 = dktX23_takes_0 := by decide +kernel
theorem dX23_takes_0 : decode cX23_takes 0 = .ok (.iload_n 1, 1) := dk_27 (dk_at dksX23_takes_0 0 rfl rfl)
theorem dX23_takes_1 : decode cX23_takes 1 = .ok (.aload_n 0, 1) := dk_42 (dk_at dksX23_takes_0 1 rfl rfl)
theorem dX23_takes_2 : decode cX23_takes 2 = .ok (.getfield 15, 3) := dk_180 0 15 (dk_at dksX23_takes_0 2 rfl rfl)
theorem dX23_takes_5 : decode cX23_takes 5 = .ok (.imul, 1) := dk_104 (dk_at dksX23_takes_0 5 rfl rfl)
theorem dX23_takes_6 : decode cX23_takes 6 = .ok (.bipush 10, 2) := dk_16 10 (dk_at dksX23_takes_0 6 rfl rfl)
theorem dX23_takes_8 : decode cX23_takes 8 = .ok (.idiv, 1) := dk_108 (dk_at dksX23_takes_0 8 rfl rfl)
theorem dX23_takes_9 : decode cX23_takes 9 = .ok (.ireturn, 1) := dk_172 (dk_at dksX23_takes_0 9 rfl rfl)
abbrev cX23_loses : ByteArray := prog_14_method_4_code
def yX23_loses : MethodName := ⟨RX23, "loses", "()Z"⟩
theorem dX23_loses_0 : decode cX23_loses 0 = .ok (.iconst 0, 1) := by decide +kernel
theorem dX23_loses_1 : decode cX23_loses 1 = .ok (.ireturn, 1) := by decide +kernel
abbrev cX23_tears : ByteArray := prog_14_method_5_code
def yX23_tears : MethodName := ⟨RX23, "tears", "()Z"⟩
theorem dX23_tears_0 : decode cX23_tears 0 = .ok (.iconst 0, 1) := by decide +kernel
theorem dX23_tears_1 : decode cX23_tears 1 = .ok (.ireturn, 1) := by decide +kernel
theorem q133 : (Jvm.Cond.initialized "FogNets$Net") ∈ lw_all := lw_g (lw_at lw_m1 41 rfl) rfl
theorem q871 : (Jvm.Cond.selects "FogNets$Net" ({ cls := "java/lang/Object", name := "getClass", desc := "()Ljava/lang/Class;" } : Jvm.MethodName) ({ cls := "java/lang/Object", name := "getClass", desc := "()Ljava/lang/Class;" } : Jvm.MethodName)) ∈ lw_all := lw_g (lw_at lw_m4 59 rfl) rfl
theorem q1014 : (Jvm.Cond.instanceMethod ({ cls := "FogNets$Net", name := "<init>", desc := "(II)V" } : Jvm.MethodName)) ∈ lw_all := lw_g (lw_at lw_m4 202 rfl) rfl
theorem q1015 : (Jvm.Cond.code ({ cls := "FogNets$Net", name := "<init>", desc := "(II)V" } : Jvm.MethodName) prog_14_method_1_code (3 : Nat) (Option.none : Option Jvm.ClassFile.FieldType)) ∈ lw_all := lw_g (lw_at lw_m4 203 rfl) rfl
theorem q1016 : (Jvm.Cond.methodLink "FogNets$Net" (3 : Nat) ({ cls := "java/lang/Object", name := "<init>", desc := "()V" } : Jvm.MethodName)) ∈ lw_all := lw_g (lw_at lw_m4 204 rfl) rfl
theorem q1017 : (Jvm.Cond.fieldLink "FogNets$Net" (9 : Nat) "FogNets$Net" "village" "I") ∈ lw_all := lw_g (lw_at lw_m4 205 rfl) rfl
theorem q1020 : (Jvm.Cond.fieldLink "FogNets$Net" (15 : Nat) "FogNets$Net" "mesh" "I") ∈ lw_all := lw_g (lw_at lw_m4 208 rfl) rfl
theorem q1023 : (Jvm.Cond.soleField "FogNets$Net" "village") ∈ lw_all := lw_g (lw_at lw_m4 211 rfl) rfl
theorem q1025 : (Jvm.Cond.soleField "FogNets$Net" "mesh") ∈ lw_all := lw_g (lw_at lw_m4 213 rfl) rfl
theorem q1064 : (Jvm.Cond.instantiable "FogNets$Net" (2 : Nat)) ∈ lw_all := lw_g (lw_at lw_m5 12 rfl) rfl
theorem q1066 : (Jvm.Cond.laysFinal "FogNets$Net" "FogNets$Net" "village" "I") ∈ lw_all := lw_g (lw_at lw_m5 14 rfl) rfl
theorem q1067 : (Jvm.Cond.laysFinal "FogNets$Net" "FogNets$Net" "mesh" "I") ∈ lw_all := lw_g (lw_at lw_m5 15 rfl) rfl
theorem q1068 : (Jvm.Cond.superclass "FogNets$Net" "java/lang/Object") ∈ lw_all := lw_g (lw_at lw_m5 16 rfl) rfl
theorem q1088 : (Jvm.Cond.instanceMethod ({ cls := "FogNets$Net", name := "kind", desc := "()I" } : Jvm.MethodName)) ∈ lw_all := lw_g (lw_at lw_m5 36 rfl) rfl
theorem q1089 : (Jvm.Cond.selects "FogNets$Net" ({ cls := "FogNets$Net", name := "kind", desc := "()I" } : Jvm.MethodName) ({ cls := "FogNets$Net", name := "kind", desc := "()I" } : Jvm.MethodName)) ∈ lw_all := lw_g (lw_at lw_m5 37 rfl) rfl
theorem q1090 : (Jvm.Cond.sameMethod "FogNets$Net" "FogNets$Net" "kind" "()I") ∈ lw_all := lw_g (lw_at lw_m5 38 rfl) rfl
theorem q1106 : (Jvm.Cond.code ({ cls := "FogNets$Net", name := "kind", desc := "()I" } : Jvm.MethodName) prog_14_method_2_code (1 : Nat) (Option.some Jvm.ClassFile.FieldType.int)) ∈ lw_all := lw_g (lw_at lw_m5 54 rfl) rfl
theorem q1224 : (Jvm.Cond.instanceMethod ({ cls := "FogNets$Net", name := "takes", desc := "(IIZ)I" } : Jvm.MethodName)) ∈ lw_all := lw_g (lw_at lw_m5 172 rfl) rfl
theorem q1225 : (Jvm.Cond.selects "FogNets$Net" ({ cls := "FogNets$Net", name := "takes", desc := "(IIZ)I" } : Jvm.MethodName) ({ cls := "FogNets$Net", name := "takes", desc := "(IIZ)I" } : Jvm.MethodName)) ∈ lw_all := lw_g (lw_at lw_m5 173 rfl) rfl
theorem q1226 : (Jvm.Cond.sameMethod "FogNets$Net" "FogNets$Net" "takes" "(IIZ)I") ∈ lw_all := lw_g (lw_at lw_m5 174 rfl) rfl
theorem q1231 : (Jvm.Cond.code ({ cls := "FogNets$Net", name := "takes", desc := "(IIZ)I" } : Jvm.MethodName) prog_14_method_3_code (4 : Nat) (Option.some Jvm.ClassFile.FieldType.int)) ∈ lw_all := lw_g (lw_at lw_m5 179 rfl) rfl
theorem q1277 : (Jvm.Cond.instanceMethod ({ cls := "FogNets$Net", name := "loses", desc := "()Z" } : Jvm.MethodName)) ∈ lw_all := lw_g (lw_at lw_m5 225 rfl) rfl
theorem q1278 : (Jvm.Cond.selects "FogNets$Net" ({ cls := "FogNets$Net", name := "loses", desc := "()Z" } : Jvm.MethodName) ({ cls := "FogNets$Net", name := "loses", desc := "()Z" } : Jvm.MethodName)) ∈ lw_all := lw_g (lw_at lw_m5 226 rfl) rfl
theorem q1279 : (Jvm.Cond.sameMethod "FogNets$Net" "FogNets$Net" "loses" "()Z") ∈ lw_all := lw_g (lw_at lw_m5 227 rfl) rfl
theorem q1287 : (Jvm.Cond.code ({ cls := "FogNets$Net", name := "loses", desc := "()Z" } : Jvm.MethodName) prog_14_method_4_code (1 : Nat) (Option.some Jvm.ClassFile.FieldType.boolean)) ∈ lw_all := lw_g (lw_at lw_m5 235 rfl) rfl
theorem q1295 : (Jvm.Cond.instanceMethod ({ cls := "FogNets$Net", name := "tears", desc := "()Z" } : Jvm.MethodName)) ∈ lw_all := lw_g (lw_at lw_m6 3 rfl) rfl
theorem q1296 : (Jvm.Cond.selects "FogNets$Net" ({ cls := "FogNets$Net", name := "tears", desc := "()Z" } : Jvm.MethodName) ({ cls := "FogNets$Net", name := "tears", desc := "()Z" } : Jvm.MethodName)) ∈ lw_all := lw_g (lw_at lw_m6 4 rfl) rfl
theorem q1297 : (Jvm.Cond.sameMethod "FogNets$Net" "FogNets$Net" "tears" "()Z") ∈ lw_all := lw_g (lw_at lw_m6 5 rfl) rfl
theorem q1305 : (Jvm.Cond.code ({ cls := "FogNets$Net", name := "tears", desc := "()Z" } : Jvm.MethodName) prog_14_method_5_code (1 : Nat) (Option.some Jvm.ClassFile.FieldType.boolean)) ∈ lw_all := lw_g (lw_at lw_m6 13 rfl) rfl
theorem q2062 : (Jvm.Cond.castable "FogNets$Net" "java/lang/Object") ∈ lw_tbl := lw_at lw_m9 50 rfl
theorem in_X23 : ∀ w ∈ wsX230, w ∈ lw_all := lw_in wsX230 [1066, 1067] (by decide +kernel) (by decide +kernel)

/-! FogNets$Shroud -/
set_option maxRecDepth 100000
def RX24 : String := "FogNets$Shroud"
def TX24 : u_T := fun k => match k with
  | 0 => ("FogNets$Net", "village", "I", true)
  | _ => ("FogNets$Net", "mesh", "I", true)
def tyX24 : Nat → FieldType := fun k => match k with
  | 0 => .int
  | _ => .int
abbrev wsX240 : List Cond := u_ws RX24 TX24 2
theorem nmX24 : ∀ a, a < 2 → ∀ b, b < 2 → a ≠ b → (TX24 a).2.1 ≠ (TX24 b).2.1 := by decide +kernel
theorem tyX24_ok : ∀ k, k < 2 → parseFieldDescriptor (TX24 k).2.2.1 = some (tyX24 k) := by decide +kernel
abbrev cX24_init : ByteArray := prog_22_method_1_code
def yX24_init : MethodName := ⟨RX24, "<init>", "(II)V"⟩
def dkwX24_init_0 : List UInt8 := [42, 27, 28, 183, 0, 1, 177]
abbrev dktX24_init_0 : List UInt8 := dkwX24_init_0 ++ []
theorem dksX24_init_0 : cX24_init.data.toList.drop 0 = dktX24_init_0 := by decide +kernel
theorem dX24_init_0 : decode cX24_init 0 = .ok (.aload_n 0, 1) := dk_42 (dk_at dksX24_init_0 0 rfl rfl)
theorem dX24_init_1 : decode cX24_init 1 = .ok (.iload_n 1, 1) := dk_27 (dk_at dksX24_init_0 1 rfl rfl)
theorem dX24_init_2 : decode cX24_init 2 = .ok (.iload_n 2, 1) := dk_28 (dk_at dksX24_init_0 2 rfl rfl)
theorem dX24_init_3 : decode cX24_init 3 = .ok (.invokespecial 1, 3) := dk_183 0 1 (dk_at dksX24_init_0 3 rfl rfl)
theorem dX24_init_6 : decode cX24_init 6 = .ok (.return_, 1) := dk_177 (dk_at dksX24_init_0 6 rfl rfl)
abbrev cX24_kind : ByteArray := prog_22_method_2_code
def yX24_kind : MethodName := ⟨RX24, "kind", "()I"⟩
theorem dX24_kind_0 : decode cX24_kind 0 = .ok (.iconst 1, 1) := by decide +kernel
theorem dX24_kind_1 : decode cX24_kind 1 = .ok (.ireturn, 1) := by decide +kernel
abbrev cX24_takes : ByteArray := prog_22_method_3_code
def yX24_takes : MethodName := ⟨RX24, "takes", "(IIZ)I"⟩
def dkwX24_takes_0 : List UInt8 := [7, 42, 27, 28, 29, 183, 0, 7, 184, 0, 11, 172]
abbrev dktX24_takes_0 : List UInt8 := dkwX24_takes_0 ++ []
theorem dksX24_takes_0 : cX24_takes.data.toList.drop 0 = dktX24_takes_0 := by decide +kernel
theorem dX24_takes_0 : decode cX24_takes 0 = .ok (.iconst 4, 1) := dk_7 (dk_at dksX24_takes_0 0 rfl rfl)
theorem dX24_takes_1 : decode cX24_takes 1 = .ok (.aload_n 0, 1) := dk_42 (dk_at dksX24_takes_0 1 rfl rfl)
theorem dX24_takes_2 : decode cX24_takes 2 = .ok (.iload_n 1, 1) := dk_27 (dk_at dksX24_takes_0 2 rfl rfl)
theorem dX24_takes_3 : decode cX24_takes 3 = .ok (.iload_n 2, 1) := dk_28 (dk_at dksX24_takes_0 3 rfl rfl)
theorem dX24_takes_4 : decode cX24_takes 4 = .ok (.iload_n 3, 1) := dk_29 (dk_at dksX24_takes_0 4 rfl rfl)
theorem dX24_takes_5 : decode cX24_takes 5 = .ok (.invokespecial 7, 3) := dk_183 0 7 (dk_at dksX24_takes_0 5 rfl rfl)
theorem dX24_takes_8 : decode cX24_takes 8 = .ok (.invokestatic 11, 3) := dk_184 0 11 (dk_at dksX24_takes_0 8 rfl rfl)
theorem dX24_takes_11 : decode cX24_takes 11 = .ok (.ireturn, 1) := dk_172 (dk_at dksX24_takes_0 11 rfl rfl)
theorem q134 : (Jvm.Cond.initialized "FogNets$Shroud") ∈ lw_all := lw_g (lw_at lw_m1 42 rfl) rfl
theorem q879 : (Jvm.Cond.selects "FogNets$Shroud" ({ cls := "java/lang/Object", name := "getClass", desc := "()Ljava/lang/Class;" } : Jvm.MethodName) ({ cls := "java/lang/Object", name := "getClass", desc := "()Ljava/lang/Class;" } : Jvm.MethodName)) ∈ lw_all := lw_g (lw_at lw_m4 67 rfl) rfl
theorem q1009 : (Jvm.Cond.instantiable "FogNets$Shroud" (2 : Nat)) ∈ lw_all := lw_g (lw_at lw_m4 197 rfl) rfl
theorem q1011 : (Jvm.Cond.instanceMethod ({ cls := "FogNets$Shroud", name := "<init>", desc := "(II)V" } : Jvm.MethodName)) ∈ lw_all := lw_g (lw_at lw_m4 199 rfl) rfl
theorem q1012 : (Jvm.Cond.code ({ cls := "FogNets$Shroud", name := "<init>", desc := "(II)V" } : Jvm.MethodName) prog_22_method_1_code (3 : Nat) (Option.none : Option Jvm.ClassFile.FieldType)) ∈ lw_all := lw_g (lw_at lw_m4 200 rfl) rfl
theorem q1013 : (Jvm.Cond.methodLink "FogNets$Shroud" (1 : Nat) ({ cls := "FogNets$Net", name := "<init>", desc := "(II)V" } : Jvm.MethodName)) ∈ lw_all := lw_g (lw_at lw_m4 201 rfl) rfl
theorem q1022 : (Jvm.Cond.laysFinal "FogNets$Shroud" "FogNets$Net" "village" "I") ∈ lw_all := lw_g (lw_at lw_m4 210 rfl) rfl
theorem q1024 : (Jvm.Cond.laysFinal "FogNets$Shroud" "FogNets$Net" "mesh" "I") ∈ lw_all := lw_g (lw_at lw_m4 212 rfl) rfl
theorem q1026 : (Jvm.Cond.superclass "FogNets$Shroud" "FogNets$Net") ∈ lw_all := lw_g (lw_at lw_m4 214 rfl) rfl
theorem q1097 : (Jvm.Cond.selects "FogNets$Shroud" ({ cls := "FogNets$Net", name := "kind", desc := "()I" } : Jvm.MethodName) ({ cls := "FogNets$Shroud", name := "kind", desc := "()I" } : Jvm.MethodName)) ∈ lw_all := lw_g (lw_at lw_m5 45 rfl) rfl
theorem q1098 : (Jvm.Cond.instanceMethod ({ cls := "FogNets$Shroud", name := "kind", desc := "()I" } : Jvm.MethodName)) ∈ lw_all := lw_g (lw_at lw_m5 46 rfl) rfl
theorem q1099 : (Jvm.Cond.code ({ cls := "FogNets$Shroud", name := "kind", desc := "()I" } : Jvm.MethodName) prog_22_method_2_code (1 : Nat) (Option.some Jvm.ClassFile.FieldType.int)) ∈ lw_all := lw_g (lw_at lw_m5 47 rfl) rfl
theorem q1236 : (Jvm.Cond.selects "FogNets$Shroud" ({ cls := "FogNets$Net", name := "takes", desc := "(IIZ)I" } : Jvm.MethodName) ({ cls := "FogNets$Shroud", name := "takes", desc := "(IIZ)I" } : Jvm.MethodName)) ∈ lw_all := lw_g (lw_at lw_m5 184 rfl) rfl
theorem q1237 : (Jvm.Cond.instanceMethod ({ cls := "FogNets$Shroud", name := "takes", desc := "(IIZ)I" } : Jvm.MethodName)) ∈ lw_all := lw_g (lw_at lw_m5 185 rfl) rfl
theorem q1238 : (Jvm.Cond.code ({ cls := "FogNets$Shroud", name := "takes", desc := "(IIZ)I" } : Jvm.MethodName) prog_22_method_3_code (4 : Nat) (Option.some Jvm.ClassFile.FieldType.int)) ∈ lw_all := lw_g (lw_at lw_m5 186 rfl) rfl
theorem q1239 : (Jvm.Cond.methodLink "FogNets$Shroud" (7 : Nat) ({ cls := "FogNets$Net", name := "takes", desc := "(IIZ)I" } : Jvm.MethodName)) ∈ lw_all := lw_g (lw_at lw_m5 187 rfl) rfl
theorem q1240 : (Jvm.Cond.methodLink "FogNets$Shroud" (11 : Nat) ({ cls := "java/lang/Math", name := "min", desc := "(II)I" } : Jvm.MethodName)) ∈ lw_all := lw_g (lw_at lw_m5 188 rfl) rfl
theorem q1282 : (Jvm.Cond.selects "FogNets$Shroud" ({ cls := "FogNets$Net", name := "loses", desc := "()Z" } : Jvm.MethodName) ({ cls := "FogNets$Net", name := "loses", desc := "()Z" } : Jvm.MethodName)) ∈ lw_all := lw_g (lw_at lw_m5 230 rfl) rfl
theorem q1300 : (Jvm.Cond.selects "FogNets$Shroud" ({ cls := "FogNets$Net", name := "tears", desc := "()Z" } : Jvm.MethodName) ({ cls := "FogNets$Net", name := "tears", desc := "()Z" } : Jvm.MethodName)) ∈ lw_all := lw_g (lw_at lw_m6 8 rfl) rfl
theorem q2051 : (Jvm.Cond.castable "FogNets$Shroud" "FogNets$Net") ∈ lw_tbl := lw_at lw_m9 39 rfl
theorem q2086 : (Jvm.Cond.castable "FogNets$Shroud" "java/lang/Object") ∈ lw_tbl := lw_at lw_m9 74 rfl
theorem in_X24 : ∀ w ∈ wsX240, w ∈ lw_all := lw_in wsX240 [1022, 1024] (by decide +kernel) (by decide +kernel)

/-! FogNets$Birds -/
set_option maxRecDepth 100000
def RX25 : String := "FogNets$Birds"
def TX25 : u_T := fun k => match k with
  | 0 => ("FogNets$Net", "village", "I", true)
  | _ => ("FogNets$Net", "mesh", "I", true)
def tyX25 : Nat → FieldType := fun k => match k with
  | 0 => .int
  | _ => .int
abbrev wsX250 : List Cond := u_ws RX25 TX25 2
theorem nmX25 : ∀ a, a < 2 → ∀ b, b < 2 → a ≠ b → (TX25 a).2.1 ≠ (TX25 b).2.1 := by decide +kernel
theorem tyX25_ok : ∀ k, k < 2 → parseFieldDescriptor (TX25 k).2.2.1 = some (tyX25 k) := by decide +kernel
abbrev cX25_init : ByteArray := prog_3_method_1_code
def yX25_init : MethodName := ⟨RX25, "<init>", "(II)V"⟩
def dkwX25_init_0 : List UInt8 := [42, 27, 28, 183, 0, 1, 177]
abbrev dktX25_init_0 : List UInt8 := dkwX25_init_0 ++ []
theorem dksX25_init_0 : cX25_init.data.toList.drop 0 = dktX25_init_0 := by decide +kernel
theorem dX25_init_0 : decode cX25_init 0 = .ok (.aload_n 0, 1) := dk_42 (dk_at dksX25_init_0 0 rfl rfl)
theorem dX25_init_1 : decode cX25_init 1 = .ok (.iload_n 1, 1) := dk_27 (dk_at dksX25_init_0 1 rfl rfl)
theorem dX25_init_2 : decode cX25_init 2 = .ok (.iload_n 2, 1) := dk_28 (dk_at dksX25_init_0 2 rfl rfl)
theorem dX25_init_3 : decode cX25_init 3 = .ok (.invokespecial 1, 3) := dk_183 0 1 (dk_at dksX25_init_0 3 rfl rfl)
theorem dX25_init_6 : decode cX25_init 6 = .ok (.return_, 1) := dk_177 (dk_at dksX25_init_0 6 rfl rfl)
abbrev cX25_kind : ByteArray := prog_3_method_2_code
def yX25_kind : MethodName := ⟨RX25, "kind", "()I"⟩
theorem dX25_kind_0 : decode cX25_kind 0 = .ok (.iconst 2, 1) := by decide +kernel
theorem dX25_kind_1 : decode cX25_kind 1 = .ok (.ireturn, 1) := by decide +kernel
abbrev cX25_takes : ByteArray := prog_3_method_3_code
def yX25_takes : MethodName := ⟨RX25, "takes", "(IIZ)I"⟩
def dkwX25_takes_0 : List UInt8 := [28, 5, 112, 4, 160, 0, 7, 3, 167, 0, 10, 42, 27, 28, 29, 183, 0, 7, 172]
abbrev dktX25_takes_0 : List UInt8 := dkwX25_takes_0 ++ []
theorem dksX25_takes_0 : cX25_takes.data.toList.drop 0 = dktX25_takes_0 := by decide +kernel
theorem dX25_takes_0 : decode cX25_takes 0 = .ok (.iload_n 2, 1) := dk_28 (dk_at dksX25_takes_0 0 rfl rfl)
theorem dX25_takes_1 : decode cX25_takes 1 = .ok (.iconst 2, 1) := dk_5 (dk_at dksX25_takes_0 1 rfl rfl)
theorem dX25_takes_2 : decode cX25_takes 2 = .ok (.irem, 1) := dk_112 (dk_at dksX25_takes_0 2 rfl rfl)
theorem dX25_takes_3 : decode cX25_takes 3 = .ok (.iconst 1, 1) := dk_4 (dk_at dksX25_takes_0 3 rfl rfl)
theorem dX25_takes_4 : decode cX25_takes 4 = .ok (.if_icmp .ne 7, 3) := dk_160 0 7 (dk_at dksX25_takes_0 4 rfl rfl)
theorem dX25_takes_7 : decode cX25_takes 7 = .ok (.iconst 0, 1) := dk_3 (dk_at dksX25_takes_0 7 rfl rfl)
theorem dX25_takes_8 : decode cX25_takes 8 = .ok (.goto 10, 3) := dk_167 0 10 (dk_at dksX25_takes_0 8 rfl rfl)
theorem dX25_takes_11 : decode cX25_takes 11 = .ok (.aload_n 0, 1) := dk_42 (dk_at dksX25_takes_0 11 rfl rfl)
theorem dX25_takes_12 : decode cX25_takes 12 = .ok (.iload_n 1, 1) := dk_27 (dk_at dksX25_takes_0 12 rfl rfl)
theorem dX25_takes_13 : decode cX25_takes 13 = .ok (.iload_n 2, 1) := dk_28 (dk_at dksX25_takes_0 13 rfl rfl)
theorem dX25_takes_14 : decode cX25_takes 14 = .ok (.iload_n 3, 1) := dk_29 (dk_at dksX25_takes_0 14 rfl rfl)
theorem dX25_takes_15 : decode cX25_takes 15 = .ok (.invokespecial 7, 3) := dk_183 0 7 (dk_at dksX25_takes_0 15 rfl rfl)
theorem dX25_takes_18 : decode cX25_takes 18 = .ok (.ireturn, 1) := dk_172 (dk_at dksX25_takes_0 18 rfl rfl)
theorem q135 : (Jvm.Cond.initialized "FogNets$Birds") ∈ lw_all := lw_g (lw_at lw_m1 43 rfl) rfl
theorem q862 : (Jvm.Cond.selects "FogNets$Birds" ({ cls := "java/lang/Object", name := "getClass", desc := "()Ljava/lang/Class;" } : Jvm.MethodName) ({ cls := "java/lang/Object", name := "getClass", desc := "()Ljava/lang/Class;" } : Jvm.MethodName)) ∈ lw_all := lw_g (lw_at lw_m4 50 rfl) rfl
theorem q1028 : (Jvm.Cond.instantiable "FogNets$Birds" (2 : Nat)) ∈ lw_all := lw_g (lw_at lw_m4 216 rfl) rfl
theorem q1030 : (Jvm.Cond.instanceMethod ({ cls := "FogNets$Birds", name := "<init>", desc := "(II)V" } : Jvm.MethodName)) ∈ lw_all := lw_g (lw_at lw_m4 218 rfl) rfl
theorem q1031 : (Jvm.Cond.code ({ cls := "FogNets$Birds", name := "<init>", desc := "(II)V" } : Jvm.MethodName) prog_3_method_1_code (3 : Nat) (Option.none : Option Jvm.ClassFile.FieldType)) ∈ lw_all := lw_g (lw_at lw_m4 219 rfl) rfl
theorem q1032 : (Jvm.Cond.methodLink "FogNets$Birds" (1 : Nat) ({ cls := "FogNets$Net", name := "<init>", desc := "(II)V" } : Jvm.MethodName)) ∈ lw_all := lw_g (lw_at lw_m4 220 rfl) rfl
theorem q1033 : (Jvm.Cond.laysFinal "FogNets$Birds" "FogNets$Net" "village" "I") ∈ lw_all := lw_g (lw_at lw_m4 221 rfl) rfl
theorem q1034 : (Jvm.Cond.laysFinal "FogNets$Birds" "FogNets$Net" "mesh" "I") ∈ lw_all := lw_g (lw_at lw_m4 222 rfl) rfl
theorem q1035 : (Jvm.Cond.superclass "FogNets$Birds" "FogNets$Net") ∈ lw_all := lw_g (lw_at lw_m4 223 rfl) rfl
theorem q1091 : (Jvm.Cond.selects "FogNets$Birds" ({ cls := "FogNets$Net", name := "kind", desc := "()I" } : Jvm.MethodName) ({ cls := "FogNets$Birds", name := "kind", desc := "()I" } : Jvm.MethodName)) ∈ lw_all := lw_g (lw_at lw_m5 39 rfl) rfl
theorem q1092 : (Jvm.Cond.instanceMethod ({ cls := "FogNets$Birds", name := "kind", desc := "()I" } : Jvm.MethodName)) ∈ lw_all := lw_g (lw_at lw_m5 40 rfl) rfl
theorem q1093 : (Jvm.Cond.code ({ cls := "FogNets$Birds", name := "kind", desc := "()I" } : Jvm.MethodName) prog_3_method_2_code (1 : Nat) (Option.some Jvm.ClassFile.FieldType.int)) ∈ lw_all := lw_g (lw_at lw_m5 41 rfl) rfl
theorem q1227 : (Jvm.Cond.selects "FogNets$Birds" ({ cls := "FogNets$Net", name := "takes", desc := "(IIZ)I" } : Jvm.MethodName) ({ cls := "FogNets$Birds", name := "takes", desc := "(IIZ)I" } : Jvm.MethodName)) ∈ lw_all := lw_g (lw_at lw_m5 175 rfl) rfl
theorem q1228 : (Jvm.Cond.instanceMethod ({ cls := "FogNets$Birds", name := "takes", desc := "(IIZ)I" } : Jvm.MethodName)) ∈ lw_all := lw_g (lw_at lw_m5 176 rfl) rfl
theorem q1229 : (Jvm.Cond.code ({ cls := "FogNets$Birds", name := "takes", desc := "(IIZ)I" } : Jvm.MethodName) prog_3_method_3_code (4 : Nat) (Option.some Jvm.ClassFile.FieldType.int)) ∈ lw_all := lw_g (lw_at lw_m5 177 rfl) rfl
theorem q1230 : (Jvm.Cond.methodLink "FogNets$Birds" (7 : Nat) ({ cls := "FogNets$Net", name := "takes", desc := "(IIZ)I" } : Jvm.MethodName)) ∈ lw_all := lw_g (lw_at lw_m5 178 rfl) rfl
theorem q1280 : (Jvm.Cond.selects "FogNets$Birds" ({ cls := "FogNets$Net", name := "loses", desc := "()Z" } : Jvm.MethodName) ({ cls := "FogNets$Net", name := "loses", desc := "()Z" } : Jvm.MethodName)) ∈ lw_all := lw_g (lw_at lw_m5 228 rfl) rfl
theorem q1298 : (Jvm.Cond.selects "FogNets$Birds" ({ cls := "FogNets$Net", name := "tears", desc := "()Z" } : Jvm.MethodName) ({ cls := "FogNets$Net", name := "tears", desc := "()Z" } : Jvm.MethodName)) ∈ lw_all := lw_g (lw_at lw_m6 6 rfl) rfl
theorem q2049 : (Jvm.Cond.castable "FogNets$Birds" "FogNets$Net") ∈ lw_tbl := lw_at lw_m9 37 rfl
theorem q2087 : (Jvm.Cond.castable "FogNets$Birds" "java/lang/Object") ∈ lw_tbl := lw_at lw_m9 75 rfl
theorem in_X25 : ∀ w ∈ wsX250, w ∈ lw_all := lw_in wsX250 [1033, 1034] (by decide +kernel) (by decide +kernel)

/-! FogNets$Torn -/
set_option maxRecDepth 100000
def RX26 : String := "FogNets$Torn"
def TX26 : u_T := fun k => match k with
  | 0 => ("FogNets$Net", "village", "I", true)
  | _ => ("FogNets$Net", "mesh", "I", true)
def tyX26 : Nat → FieldType := fun k => match k with
  | 0 => .int
  | _ => .int
abbrev wsX260 : List Cond := u_ws RX26 TX26 2
theorem nmX26 : ∀ a, a < 2 → ∀ b, b < 2 → a ≠ b → (TX26 a).2.1 ≠ (TX26 b).2.1 := by decide +kernel
theorem tyX26_ok : ∀ k, k < 2 → parseFieldDescriptor (TX26 k).2.2.1 = some (tyX26 k) := by decide +kernel
abbrev cX26_init : ByteArray := prog_27_method_1_code
def yX26_init : MethodName := ⟨RX26, "<init>", "(II)V"⟩
def dkwX26_init_0 : List UInt8 := [42, 27, 28, 183, 0, 1, 177]
abbrev dktX26_init_0 : List UInt8 := dkwX26_init_0 ++ []
theorem dksX26_init_0 : cX26_init.data.toList.drop 0 = dktX26_init_0 := by decide +kernel
theorem dX26_init_0 : decode cX26_init 0 = .ok (.aload_n 0, 1) := dk_42 (dk_at dksX26_init_0 0 rfl rfl)
theorem dX26_init_1 : decode cX26_init 1 = .ok (.iload_n 1, 1) := dk_27 (dk_at dksX26_init_0 1 rfl rfl)
theorem dX26_init_2 : decode cX26_init 2 = .ok (.iload_n 2, 1) := dk_28 (dk_at dksX26_init_0 2 rfl rfl)
theorem dX26_init_3 : decode cX26_init 3 = .ok (.invokespecial 1, 3) := dk_183 0 1 (dk_at dksX26_init_0 3 rfl rfl)
theorem dX26_init_6 : decode cX26_init 6 = .ok (.return_, 1) := dk_177 (dk_at dksX26_init_0 6 rfl rfl)
abbrev cX26_kind : ByteArray := prog_27_method_2_code
def yX26_kind : MethodName := ⟨RX26, "kind", "()I"⟩
theorem dX26_kind_0 : decode cX26_kind 0 = .ok (.iconst 3, 1) := by decide +kernel
theorem dX26_kind_1 : decode cX26_kind 1 = .ok (.ireturn, 1) := by decide +kernel
abbrev cX26_takes : ByteArray := prog_27_method_3_code
def yX26_takes : MethodName := ⟨RX26, "takes", "(IIZ)I"⟩
def dkwX26_takes_0 : List UInt8 := [42, 27, 28, 29, 183, 0, 7, 29, 153, 0, 7, 4, 167, 0, 4, 5, 108, 172]
abbrev dktX26_takes_0 : List UInt8 := dkwX26_takes_0 ++ []
theorem dksX26_takes_0 : cX26_takes.data.toList.drop 0 = dktX26_takes_0 := by decide +kernel
theorem dX26_takes_0 : decode cX26_takes 0 = .ok (.aload_n 0, 1) := dk_42 (dk_at dksX26_takes_0 0 rfl rfl)
theorem dX26_takes_1 : decode cX26_takes 1 = .ok (.iload_n 1, 1) := dk_27 (dk_at dksX26_takes_0 1 rfl rfl)
theorem dX26_takes_2 : decode cX26_takes 2 = .ok (.iload_n 2, 1) := dk_28 (dk_at dksX26_takes_0 2 rfl rfl)
theorem dX26_takes_3 : decode cX26_takes 3 = .ok (.iload_n 3, 1) := dk_29 (dk_at dksX26_takes_0 3 rfl rfl)
theorem dX26_takes_4 : decode cX26_takes 4 = .ok (.invokespecial 7, 3) := dk_183 0 7 (dk_at dksX26_takes_0 4 rfl rfl)
theorem dX26_takes_7 : decode cX26_takes 7 = .ok (.iload_n 3, 1) := dk_29 (dk_at dksX26_takes_0 7 rfl rfl)
theorem dX26_takes_8 : decode cX26_takes 8 = .ok (.ifCond .eq 7, 3) := dk_153 0 7 (dk_at dksX26_takes_0 8 rfl rfl)
theorem dX26_takes_11 : decode cX26_takes 11 = .ok (.iconst 1, 1) := dk_4 (dk_at dksX26_takes_0 11 rfl rfl)
theorem dX26_takes_12 : decode cX26_takes 12 = .ok (.goto 4, 3) := dk_167 0 4 (dk_at dksX26_takes_0 12 rfl rfl)
theorem dX26_takes_15 : decode cX26_takes 15 = .ok (.iconst 2, 1) := dk_5 (dk_at dksX26_takes_0 15 rfl rfl)
theorem dX26_takes_16 : decode cX26_takes 16 = .ok (.idiv, 1) := dk_108 (dk_at dksX26_takes_0 16 rfl rfl)
theorem dX26_takes_17 : decode cX26_takes 17 = .ok (.ireturn, 1) := dk_172 (dk_at dksX26_takes_0 17 rfl rfl)
abbrev cX26_tears : ByteArray := prog_27_method_4_code
def yX26_tears : MethodName := ⟨RX26, "tears", "()Z"⟩
theorem dX26_tears_0 : decode cX26_tears 0 = .ok (.iconst 1, 1) := by decide +kernel
theorem dX26_tears_1 : decode cX26_tears 1 = .ok (.ireturn, 1) := by decide +kernel
theorem q136 : (Jvm.Cond.initialized "FogNets$Torn") ∈ lw_all := lw_g (lw_at lw_m1 44 rfl) rfl
theorem q884 : (Jvm.Cond.selects "FogNets$Torn" ({ cls := "java/lang/Object", name := "getClass", desc := "()Ljava/lang/Class;" } : Jvm.MethodName) ({ cls := "java/lang/Object", name := "getClass", desc := "()Ljava/lang/Class;" } : Jvm.MethodName)) ∈ lw_all := lw_g (lw_at lw_m4 72 rfl) rfl
theorem q1037 : (Jvm.Cond.instantiable "FogNets$Torn" (2 : Nat)) ∈ lw_all := lw_g (lw_at lw_m4 225 rfl) rfl
theorem q1039 : (Jvm.Cond.instanceMethod ({ cls := "FogNets$Torn", name := "<init>", desc := "(II)V" } : Jvm.MethodName)) ∈ lw_all := lw_g (lw_at lw_m4 227 rfl) rfl
theorem q1040 : (Jvm.Cond.code ({ cls := "FogNets$Torn", name := "<init>", desc := "(II)V" } : Jvm.MethodName) prog_27_method_1_code (3 : Nat) (Option.none : Option Jvm.ClassFile.FieldType)) ∈ lw_all := lw_g (lw_at lw_m4 228 rfl) rfl
theorem q1041 : (Jvm.Cond.methodLink "FogNets$Torn" (1 : Nat) ({ cls := "FogNets$Net", name := "<init>", desc := "(II)V" } : Jvm.MethodName)) ∈ lw_all := lw_g (lw_at lw_m4 229 rfl) rfl
theorem q1042 : (Jvm.Cond.laysFinal "FogNets$Torn" "FogNets$Net" "village" "I") ∈ lw_all := lw_g (lw_at lw_m4 230 rfl) rfl
theorem q1043 : (Jvm.Cond.laysFinal "FogNets$Torn" "FogNets$Net" "mesh" "I") ∈ lw_all := lw_g (lw_at lw_m4 231 rfl) rfl
theorem q1044 : (Jvm.Cond.superclass "FogNets$Torn" "FogNets$Net") ∈ lw_all := lw_g (lw_at lw_m4 232 rfl) rfl
theorem q1103 : (Jvm.Cond.selects "FogNets$Torn" ({ cls := "FogNets$Net", name := "kind", desc := "()I" } : Jvm.MethodName) ({ cls := "FogNets$Torn", name := "kind", desc := "()I" } : Jvm.MethodName)) ∈ lw_all := lw_g (lw_at lw_m5 51 rfl) rfl
theorem q1104 : (Jvm.Cond.instanceMethod ({ cls := "FogNets$Torn", name := "kind", desc := "()I" } : Jvm.MethodName)) ∈ lw_all := lw_g (lw_at lw_m5 52 rfl) rfl
theorem q1105 : (Jvm.Cond.code ({ cls := "FogNets$Torn", name := "kind", desc := "()I" } : Jvm.MethodName) prog_27_method_2_code (1 : Nat) (Option.some Jvm.ClassFile.FieldType.int)) ∈ lw_all := lw_g (lw_at lw_m5 53 rfl) rfl
theorem q1242 : (Jvm.Cond.selects "FogNets$Torn" ({ cls := "FogNets$Net", name := "takes", desc := "(IIZ)I" } : Jvm.MethodName) ({ cls := "FogNets$Torn", name := "takes", desc := "(IIZ)I" } : Jvm.MethodName)) ∈ lw_all := lw_g (lw_at lw_m5 190 rfl) rfl
theorem q1243 : (Jvm.Cond.instanceMethod ({ cls := "FogNets$Torn", name := "takes", desc := "(IIZ)I" } : Jvm.MethodName)) ∈ lw_all := lw_g (lw_at lw_m5 191 rfl) rfl
theorem q1244 : (Jvm.Cond.code ({ cls := "FogNets$Torn", name := "takes", desc := "(IIZ)I" } : Jvm.MethodName) prog_27_method_3_code (4 : Nat) (Option.some Jvm.ClassFile.FieldType.int)) ∈ lw_all := lw_g (lw_at lw_m5 192 rfl) rfl
theorem q1245 : (Jvm.Cond.methodLink "FogNets$Torn" (7 : Nat) ({ cls := "FogNets$Net", name := "takes", desc := "(IIZ)I" } : Jvm.MethodName)) ∈ lw_all := lw_g (lw_at lw_m5 193 rfl) rfl
theorem q1286 : (Jvm.Cond.selects "FogNets$Torn" ({ cls := "FogNets$Net", name := "loses", desc := "()Z" } : Jvm.MethodName) ({ cls := "FogNets$Net", name := "loses", desc := "()Z" } : Jvm.MethodName)) ∈ lw_all := lw_g (lw_at lw_m5 234 rfl) rfl
theorem q1302 : (Jvm.Cond.selects "FogNets$Torn" ({ cls := "FogNets$Net", name := "tears", desc := "()Z" } : Jvm.MethodName) ({ cls := "FogNets$Torn", name := "tears", desc := "()Z" } : Jvm.MethodName)) ∈ lw_all := lw_g (lw_at lw_m6 10 rfl) rfl
theorem q1303 : (Jvm.Cond.instanceMethod ({ cls := "FogNets$Torn", name := "tears", desc := "()Z" } : Jvm.MethodName)) ∈ lw_all := lw_g (lw_at lw_m6 11 rfl) rfl
theorem q1304 : (Jvm.Cond.code ({ cls := "FogNets$Torn", name := "tears", desc := "()Z" } : Jvm.MethodName) prog_27_method_4_code (1 : Nat) (Option.some Jvm.ClassFile.FieldType.boolean)) ∈ lw_all := lw_g (lw_at lw_m6 12 rfl) rfl
theorem q2053 : (Jvm.Cond.castable "FogNets$Torn" "FogNets$Net") ∈ lw_tbl := lw_at lw_m9 41 rfl
theorem q2088 : (Jvm.Cond.castable "FogNets$Torn" "java/lang/Object") ∈ lw_tbl := lw_at lw_m9 76 rfl
theorem in_X26 : ∀ w ∈ wsX260, w ∈ lw_all := lw_in wsX260 [1042, 1043] (by decide +kernel) (by decide +kernel)

/-! FogNets$Spite -/
set_option maxRecDepth 100000
def RX27 : String := "FogNets$Spite"
def TX27 : u_T := fun k => match k with
  | 0 => ("FogNets$Net", "village", "I", true)
  | _ => ("FogNets$Net", "mesh", "I", true)
def tyX27 : Nat → FieldType := fun k => match k with
  | 0 => .int
  | _ => .int
abbrev wsX270 : List Cond := u_ws RX27 TX27 2
theorem nmX27 : ∀ a, a < 2 → ∀ b, b < 2 → a ≠ b → (TX27 a).2.1 ≠ (TX27 b).2.1 := by decide +kernel
theorem tyX27_ok : ∀ k, k < 2 → parseFieldDescriptor (TX27 k).2.2.1 = some (tyX27 k) := by decide +kernel
abbrev cX27_init : ByteArray := prog_24_method_1_code
def yX27_init : MethodName := ⟨RX27, "<init>", "(II)V"⟩
def dkwX27_init_0 : List UInt8 := [42, 27, 28, 183, 0, 1, 177]
abbrev dktX27_init_0 : List UInt8 := dkwX27_init_0 ++ []
theorem dksX27_init_0 : cX27_init.data.toList.drop 0 = dktX27_init_0 := by decide +kernel
theorem dX27_init_0 : decode cX27_init 0 = .ok (.aload_n 0, 1) := dk_42 (dk_at dksX27_init_0 0 rfl rfl)
theorem dX27_init_1 : decode cX27_init 1 = .ok (.iload_n 1, 1) := dk_27 (dk_at dksX27_init_0 1 rfl rfl)
theorem dX27_init_2 : decode cX27_init 2 = .ok (.iload_n 2, 1) := dk_28 (dk_at dksX27_init_0 2 rfl rfl)
theorem dX27_init_3 : decode cX27_init 3 = .ok (.invokespecial 1, 3) := dk_183 0 1 (dk_at dksX27_init_0 3 rfl rfl)
theorem dX27_init_6 : decode cX27_init 6 = .ok (.return_, 1) := dk_177 (dk_at dksX27_init_0 6 rfl rfl)
abbrev cX27_kind : ByteArray := prog_24_method_2_code
def yX27_kind : MethodName := ⟨RX27, "kind", "()I"⟩
theorem dX27_kind_0 : decode cX27_kind 0 = .ok (.iconst 4, 1) := by decide +kernel
theorem dX27_kind_1 : decode cX27_kind 1 = .ok (.ireturn, 1) := by decide +kernel
abbrev cX27_loses : ByteArray := prog_24_method_3_code
def yX27_loses : MethodName := ⟨RX27, "loses", "()Z"⟩
theorem dX27_loses_0 : decode cX27_loses 0 = .ok (.iconst 1, 1) := by decide +kernel
theorem dX27_loses_1 : decode cX27_loses 1 = .ok (.ireturn, 1) := by decide +kernel
theorem q137 : (Jvm.Cond.initialized "FogNets$Spite") ∈ lw_all := lw_g (lw_at lw_m1 45 rfl) rfl
theorem q881 : (Jvm.Cond.selects "FogNets$Spite" ({ cls := "java/lang/Object", name := "getClass", desc := "()Ljava/lang/Class;" } : Jvm.MethodName) ({ cls := "java/lang/Object", name := "getClass", desc := "()Ljava/lang/Class;" } : Jvm.MethodName)) ∈ lw_all := lw_g (lw_at lw_m4 69 rfl) rfl
theorem q1046 : (Jvm.Cond.instantiable "FogNets$Spite" (2 : Nat)) ∈ lw_all := lw_g (lw_at lw_m4 234 rfl) rfl
theorem q1048 : (Jvm.Cond.instanceMethod ({ cls := "FogNets$Spite", name := "<init>", desc := "(II)V" } : Jvm.MethodName)) ∈ lw_all := lw_g (lw_at lw_m4 236 rfl) rfl
theorem q1049 : (Jvm.Cond.code ({ cls := "FogNets$Spite", name := "<init>", desc := "(II)V" } : Jvm.MethodName) prog_24_method_1_code (3 : Nat) (Option.none : Option Jvm.ClassFile.FieldType)) ∈ lw_all := lw_g (lw_at lw_m4 237 rfl) rfl
theorem q1050 : (Jvm.Cond.methodLink "FogNets$Spite" (1 : Nat) ({ cls := "FogNets$Net", name := "<init>", desc := "(II)V" } : Jvm.MethodName)) ∈ lw_all := lw_g (lw_at lw_m4 238 rfl) rfl
theorem q1051 : (Jvm.Cond.laysFinal "FogNets$Spite" "FogNets$Net" "village" "I") ∈ lw_all := lw_g (lw_at lw_m4 239 rfl) rfl
theorem q1052 : (Jvm.Cond.laysFinal "FogNets$Spite" "FogNets$Net" "mesh" "I") ∈ lw_all := lw_g (lw_at lw_m5 0 rfl) rfl
theorem q1053 : (Jvm.Cond.superclass "FogNets$Spite" "FogNets$Net") ∈ lw_all := lw_g (lw_at lw_m5 1 rfl) rfl
theorem q1100 : (Jvm.Cond.selects "FogNets$Spite" ({ cls := "FogNets$Net", name := "kind", desc := "()I" } : Jvm.MethodName) ({ cls := "FogNets$Spite", name := "kind", desc := "()I" } : Jvm.MethodName)) ∈ lw_all := lw_g (lw_at lw_m5 48 rfl) rfl
theorem q1101 : (Jvm.Cond.instanceMethod ({ cls := "FogNets$Spite", name := "kind", desc := "()I" } : Jvm.MethodName)) ∈ lw_all := lw_g (lw_at lw_m5 49 rfl) rfl
theorem q1102 : (Jvm.Cond.code ({ cls := "FogNets$Spite", name := "kind", desc := "()I" } : Jvm.MethodName) prog_24_method_2_code (1 : Nat) (Option.some Jvm.ClassFile.FieldType.int)) ∈ lw_all := lw_g (lw_at lw_m5 50 rfl) rfl
theorem q1241 : (Jvm.Cond.selects "FogNets$Spite" ({ cls := "FogNets$Net", name := "takes", desc := "(IIZ)I" } : Jvm.MethodName) ({ cls := "FogNets$Net", name := "takes", desc := "(IIZ)I" } : Jvm.MethodName)) ∈ lw_all := lw_g (lw_at lw_m5 189 rfl) rfl
theorem q1283 : (Jvm.Cond.selects "FogNets$Spite" ({ cls := "FogNets$Net", name := "loses", desc := "()Z" } : Jvm.MethodName) ({ cls := "FogNets$Spite", name := "loses", desc := "()Z" } : Jvm.MethodName)) ∈ lw_all := lw_g (lw_at lw_m5 231 rfl) rfl
theorem q1284 : (Jvm.Cond.instanceMethod ({ cls := "FogNets$Spite", name := "loses", desc := "()Z" } : Jvm.MethodName)) ∈ lw_all := lw_g (lw_at lw_m5 232 rfl) rfl
theorem q1285 : (Jvm.Cond.code ({ cls := "FogNets$Spite", name := "loses", desc := "()Z" } : Jvm.MethodName) prog_24_method_3_code (1 : Nat) (Option.some Jvm.ClassFile.FieldType.boolean)) ∈ lw_all := lw_g (lw_at lw_m5 233 rfl) rfl
theorem q1301 : (Jvm.Cond.selects "FogNets$Spite" ({ cls := "FogNets$Net", name := "tears", desc := "()Z" } : Jvm.MethodName) ({ cls := "FogNets$Net", name := "tears", desc := "()Z" } : Jvm.MethodName)) ∈ lw_all := lw_g (lw_at lw_m6 9 rfl) rfl
theorem q2052 : (Jvm.Cond.castable "FogNets$Spite" "FogNets$Net") ∈ lw_tbl := lw_at lw_m9 40 rfl
theorem q2089 : (Jvm.Cond.castable "FogNets$Spite" "java/lang/Object") ∈ lw_tbl := lw_at lw_m9 77 rfl
theorem in_X27 : ∀ w ∈ wsX270, w ∈ lw_all := lw_in wsX270 [1051, 1052] (by decide +kernel) (by decide +kernel)

/-! FogNets$High -/
set_option maxRecDepth 100000
def RX28 : String := "FogNets$High"
def TX28 : u_T := fun k => match k with
  | 0 => ("FogNets$Net", "village", "I", true)
  | _ => ("FogNets$Net", "mesh", "I", true)
def tyX28 : Nat → FieldType := fun k => match k with
  | 0 => .int
  | _ => .int
abbrev wsX280 : List Cond := u_ws RX28 TX28 2
theorem nmX28 : ∀ a, a < 2 → ∀ b, b < 2 → a ≠ b → (TX28 a).2.1 ≠ (TX28 b).2.1 := by decide +kernel
theorem tyX28_ok : ∀ k, k < 2 → parseFieldDescriptor (TX28 k).2.2.1 = some (tyX28 k) := by decide +kernel
abbrev cX28_init : ByteArray := prog_8_method_1_code
def yX28_init : MethodName := ⟨RX28, "<init>", "(II)V"⟩
def dkwX28_init_0 : List UInt8 := [42, 27, 28, 183, 0, 1, 177]
abbrev dktX28_init_0 : List UInt8 := dkwX28_init_0 ++ []
theorem dksX28_init_0 : cX28_init.data.toList.drop 0 = dktX28_init_0 := by decide +kernel
theorem dX28_init_0 : decode cX28_init 0 = .ok (.aload_n 0, 1) := dk_42 (dk_at dksX28_init_0 0 rfl rfl)
theorem dX28_init_1 : decode cX28_init 1 = .ok (.iload_n 1, 1) := dk_27 (dk_at dksX28_init_0 1 rfl rfl)
theorem dX28_init_2 : decode cX28_init 2 = .ok (.iload_n 2, 1) := dk_28 (dk_at dksX28_init_0 2 rfl rfl)
theorem dX28_init_3 : decode cX28_init 3 = .ok (.invokespecial 1, 3) := dk_183 0 1 (dk_at dksX28_init_0 3 rfl rfl)
theorem dX28_init_6 : decode cX28_init 6 = .ok (.return_, 1) := dk_177 (dk_at dksX28_init_0 6 rfl rfl)
abbrev cX28_kind : ByteArray := prog_8_method_2_code
def yX28_kind : MethodName := ⟨RX28, "kind", "()I"⟩
theorem dX28_kind_0 : decode cX28_kind 0 = .ok (.iconst 5, 1) := by decide +kernel
theorem dX28_kind_1 : decode cX28_kind 1 = .ok (.ireturn, 1) := by decide +kernel
abbrev cX28_takes : ByteArray := prog_8_method_3_code
def yX28_takes : MethodName := ⟨RX28, "takes", "(IIZ)I"⟩
def dkwX28_takes_0 : List UInt8 := [27, 16, 10, 162, 0, 7, 3, 167, 0, 10, 42, 27, 28, 29, 183, 0, 7, 172]
abbrev dktX28_takes_0 : List UInt8 := dkwX28_takes_0 ++ []
theorem dksX28_takes_0 : cX28_takes.data.toList.drop 0 = dktX28_takes_0 := by decide +kernel
theorem dX28_takes_0 : decode cX28_takes 0 = .ok (.iload_n 1, 1) := dk_27 (dk_at dksX28_takes_0 0 rfl rfl)
theorem dX28_takes_1 : decode cX28_takes 1 = .ok (.bipush 10, 2) := dk_16 10 (dk_at dksX28_takes_0 1 rfl rfl)
theorem dX28_takes_3 : decode cX28_takes 3 = .ok (.if_icmp .ge 7, 3) := dk_162 0 7 (dk_at dksX28_takes_0 3 rfl rfl)
theorem dX28_takes_6 : decode cX28_takes 6 = .ok (.iconst 0, 1) := dk_3 (dk_at dksX28_takes_0 6 rfl rfl)
theorem dX28_takes_7 : decode cX28_takes 7 = .ok (.goto 10, 3) := dk_167 0 10 (dk_at dksX28_takes_0 7 rfl rfl)
theorem dX28_takes_10 : decode cX28_takes 10 = .ok (.aload_n 0, 1) := dk_42 (dk_at dksX28_takes_0 10 rfl rfl)
theorem dX28_takes_11 : decode cX28_takes 11 = .ok (.iload_n 1, 1) := dk_27 (dk_at dksX28_takes_0 11 rfl rfl)
theorem dX28_takes_12 : decode cX28_takes 12 = .ok (.iload_n 2, 1) := dk_28 (dk_at dksX28_takes_0 12 rfl rfl)
theorem dX28_takes_13 : decode cX28_takes 13 = .ok (.iload_n 3, 1) := dk_29 (dk_at dksX28_takes_0 13 rfl rfl)
theorem dX28_takes_14 : decode cX28_takes 14 = .ok (.invokespecial 7, 3) := dk_183 0 7 (dk_at dksX28_takes_0 14 rfl rfl)
theorem dX28_takes_17 : decode cX28_takes 17 = .ok (.ireturn, 1) := dk_172 (dk_at dksX28_takes_0 17 rfl rfl)
theorem q138 : (Jvm.Cond.initialized "FogNets$High") ∈ lw_all := lw_g (lw_at lw_m1 46 rfl) rfl
theorem q866 : (Jvm.Cond.selects "FogNets$High" ({ cls := "java/lang/Object", name := "getClass", desc := "()Ljava/lang/Class;" } : Jvm.MethodName) ({ cls := "java/lang/Object", name := "getClass", desc := "()Ljava/lang/Class;" } : Jvm.MethodName)) ∈ lw_all := lw_g (lw_at lw_m4 54 rfl) rfl
theorem q1055 : (Jvm.Cond.instantiable "FogNets$High" (2 : Nat)) ∈ lw_all := lw_g (lw_at lw_m5 3 rfl) rfl
theorem q1057 : (Jvm.Cond.instanceMethod ({ cls := "FogNets$High", name := "<init>", desc := "(II)V" } : Jvm.MethodName)) ∈ lw_all := lw_g (lw_at lw_m5 5 rfl) rfl
theorem q1058 : (Jvm.Cond.code ({ cls := "FogNets$High", name := "<init>", desc := "(II)V" } : Jvm.MethodName) prog_8_method_1_code (3 : Nat) (Option.none : Option Jvm.ClassFile.FieldType)) ∈ lw_all := lw_g (lw_at lw_m5 6 rfl) rfl
theorem q1059 : (Jvm.Cond.methodLink "FogNets$High" (1 : Nat) ({ cls := "FogNets$Net", name := "<init>", desc := "(II)V" } : Jvm.MethodName)) ∈ lw_all := lw_g (lw_at lw_m5 7 rfl) rfl
theorem q1060 : (Jvm.Cond.laysFinal "FogNets$High" "FogNets$Net" "village" "I") ∈ lw_all := lw_g (lw_at lw_m5 8 rfl) rfl
theorem q1061 : (Jvm.Cond.laysFinal "FogNets$High" "FogNets$Net" "mesh" "I") ∈ lw_all := lw_g (lw_at lw_m5 9 rfl) rfl
theorem q1062 : (Jvm.Cond.superclass "FogNets$High" "FogNets$Net") ∈ lw_all := lw_g (lw_at lw_m5 10 rfl) rfl
theorem q1094 : (Jvm.Cond.selects "FogNets$High" ({ cls := "FogNets$Net", name := "kind", desc := "()I" } : Jvm.MethodName) ({ cls := "FogNets$High", name := "kind", desc := "()I" } : Jvm.MethodName)) ∈ lw_all := lw_g (lw_at lw_m5 42 rfl) rfl
theorem q1095 : (Jvm.Cond.instanceMethod ({ cls := "FogNets$High", name := "kind", desc := "()I" } : Jvm.MethodName)) ∈ lw_all := lw_g (lw_at lw_m5 43 rfl) rfl
theorem q1096 : (Jvm.Cond.code ({ cls := "FogNets$High", name := "kind", desc := "()I" } : Jvm.MethodName) prog_8_method_2_code (1 : Nat) (Option.some Jvm.ClassFile.FieldType.int)) ∈ lw_all := lw_g (lw_at lw_m5 44 rfl) rfl
theorem q1232 : (Jvm.Cond.selects "FogNets$High" ({ cls := "FogNets$Net", name := "takes", desc := "(IIZ)I" } : Jvm.MethodName) ({ cls := "FogNets$High", name := "takes", desc := "(IIZ)I" } : Jvm.MethodName)) ∈ lw_all := lw_g (lw_at lw_m5 180 rfl) rfl
theorem q1233 : (Jvm.Cond.instanceMethod ({ cls := "FogNets$High", name := "takes", desc := "(IIZ)I" } : Jvm.MethodName)) ∈ lw_all := lw_g (lw_at lw_m5 181 rfl) rfl
theorem q1234 : (Jvm.Cond.code ({ cls := "FogNets$High", name := "takes", desc := "(IIZ)I" } : Jvm.MethodName) prog_8_method_3_code (4 : Nat) (Option.some Jvm.ClassFile.FieldType.int)) ∈ lw_all := lw_g (lw_at lw_m5 182 rfl) rfl
theorem q1235 : (Jvm.Cond.methodLink "FogNets$High" (7 : Nat) ({ cls := "FogNets$Net", name := "takes", desc := "(IIZ)I" } : Jvm.MethodName)) ∈ lw_all := lw_g (lw_at lw_m5 183 rfl) rfl
theorem q1281 : (Jvm.Cond.selects "FogNets$High" ({ cls := "FogNets$Net", name := "loses", desc := "()Z" } : Jvm.MethodName) ({ cls := "FogNets$Net", name := "loses", desc := "()Z" } : Jvm.MethodName)) ∈ lw_all := lw_g (lw_at lw_m5 229 rfl) rfl
theorem q1299 : (Jvm.Cond.selects "FogNets$High" ({ cls := "FogNets$Net", name := "tears", desc := "()Z" } : Jvm.MethodName) ({ cls := "FogNets$Net", name := "tears", desc := "()Z" } : Jvm.MethodName)) ∈ lw_all := lw_g (lw_at lw_m6 7 rfl) rfl
theorem q2050 : (Jvm.Cond.castable "FogNets$High" "FogNets$Net") ∈ lw_tbl := lw_at lw_m9 38 rfl
theorem q2090 : (Jvm.Cond.castable "FogNets$High" "java/lang/Object") ∈ lw_tbl := lw_at lw_m9 78 rfl
theorem in_X28 : ∀ w ∈ wsX280, w ∈ lw_all := lw_in wsX280 [1060, 1061] (by decide +kernel) (by decide +kernel)

/-! FogNets$Mark -/
set_option maxRecDepth 100000
def RX29 : String := "FogNets$Mark"
def TX29 : u_T := fun k => match k with
  | 0 => ("FogNets$Mark", "ridge", "LFogNets$Ridge;", true)
  | 1 => ("FogNets$Mark", "hung", "LFogNets$Hung;", true)
  | 2 => ("FogNets$Mark", "tanks", "LFogNets$Tanks;", true)
  | 3 => ("FogNets$Mark", "night", "I", true)
  | 4 => ("FogNets$Mark", "took", "[I", true)
  | _ => ("FogNets$Mark", "jars", "Ljava/util/ArrayList;", true)
def tyX29 : Nat → FieldType := fun k => match k with
  | 0 => .object "FogNets$Ridge"
  | 1 => .object "FogNets$Hung"
  | 2 => .object "FogNets$Tanks"
  | 3 => .int
  | 4 => .array .int
  | _ => .object "java/util/ArrayList"
abbrev wsX290 : List Cond := u_ws RX29 TX29 6
theorem nmX29 : ∀ a, a < 6 → ∀ b, b < 6 → a ≠ b → (TX29 a).2.1 ≠ (TX29 b).2.1 := by decide +kernel
theorem tyX29_ok : ∀ k, k < 6 → parseFieldDescriptor (TX29 k).2.2.1 = some (tyX29 k) := by decide +kernel
abbrev cX29_init : ByteArray := prog_12_method_1_code
def yX29_init : MethodName := ⟨RX29, "<init>", "(LFogNets;)V"⟩
def dkwX29_init_5 : List UInt8 := [180, 0, 64, 28, 182, 0, 69, 192, 0, 73, 182, 0, 74, 87, 132, 2, 1, 167, 255, 223, 177]
abbrev dktX29_init_5 : List UInt8 := dkwX29_init_5 ++ []
def dkwX29_init_4 : List UInt8 := [16, 12, 184, 0, 58, 3, 61, 28, 43, 180, 0, 64, 182, 0, 65, 162, 0, 28, 42, 180, 0, 32, 43]
abbrev dktX29_init_4 : List UInt8 := dkwX29_init_4 ++ dktX29_init_5
def dkwX29_init_3 : List UInt8 := [180, 0, 46, 182, 0, 47, 42, 43, 180, 0, 50, 181, 0, 54, 43, 180, 0, 55, 3, 42, 180, 0, 25, 3]
abbrev dktX29_init_3 : List UInt8 := dkwX29_init_3 ++ dktX29_init_4
def dkwX29_init_2 : List UInt8 := [180, 0, 36, 181, 0, 40, 42, 180, 0, 12, 43, 180, 0, 41, 182, 0, 42, 87, 42, 180, 0, 21, 43]
abbrev dktX29_init_2 : List UInt8 := dkwX29_init_2 ++ dktX29_init_3
def dkwX29_init_1 : List UInt8 := [181, 0, 21, 42, 16, 12, 188, 10, 181, 0, 25, 42, 187, 0, 29, 89, 183, 0, 31, 181, 0, 32, 42, 43]
abbrev dktX29_init_1 : List UInt8 := dkwX29_init_1 ++ dktX29_init_2
def dkwX29_init_0 : List UInt8 := [42, 183, 0, 3, 42, 187, 0, 9, 89, 183, 0, 11, 181, 0, 12, 42, 187, 0, 18, 89, 183, 0, 20]
abbrev dktX29_init_0 : List UInt8 := dkwX29_init_0 ++ dktX29_init_1
theorem dksX29_init_0 : cX29_init.data.toList.drop 0 = dktX29_init_0 := by decide +kernel
theorem dksX29_init_1 : cX29_init.data.toList.drop 23 = dktX29_init_1 := dk_seg dksX29_init_0 23 rfl rfl
theorem dksX29_init_2 : cX29_init.data.toList.drop 47 = dktX29_init_2 := dk_seg dksX29_init_1 24 rfl rfl
theorem dksX29_init_3 : cX29_init.data.toList.drop 70 = dktX29_init_3 := dk_seg dksX29_init_2 23 rfl rfl
theorem dksX29_init_4 : cX29_init.data.toList.drop 94 = dktX29_init_4 := dk_seg dksX29_init_3 24 rfl rfl
theorem dksX29_init_5 : cX29_init.data.toList.drop 117 = dktX29_init_5 := dk_seg dksX29_init_4 23 rfl rfl
theorem dX29_init_0 : decode cX29_init 0 = .ok (.aload_n 0, 1) := dk_42 (dk_at dksX29_init_0 0 rfl rfl)
theorem dX29_init_1 : decode cX29_init 1 = .ok (.invokespecial 3, 3) := dk_183 0 3 (dk_at dksX29_init_0 1 rfl rfl)
theorem dX29_init_4 : decode cX29_init 4 = .ok (.aload_n 0, 1) := dk_42 (dk_at dksX29_init_0 4 rfl rfl)
theorem dX29_init_5 : decode cX29_init 5 = .ok (.new 9, 3) := dk_187 0 9 (dk_at dksX29_init_0 5 rfl rfl)
theorem dX29_init_8 : decode cX29_init 8 = .ok (.dup, 1) := dk_89 (dk_at dksX29_init_0 8 rfl rfl)
theorem dX29_init_9 : decode cX29_init 9 = .ok (.invokespecial 11, 3) := dk_183 0 11 (dk_at dksX29_init_0 9 rfl rfl)
theorem dX29_init_12 : decode cX29_init 12 = .ok (.putfield 12, 3) := dk_181 0 12 (dk_at dksX29_init_0 12 rfl rfl)
theorem dX29_init_15 : decode cX29_init 15 = .ok (.aload_n 0, 1) := dk_42 (dk_at dksX29_init_0 15 rfl rfl)
theorem dX29_init_16 : decode cX29_init 16 = .ok (.new 18, 3) := dk_187 0 18 (dk_at dksX29_init_0 16 rfl rfl)
theorem dX29_init_19 : decode cX29_init 19 = .ok (.dup, 1) := dk_89 (dk_at dksX29_init_0 19 rfl rfl)
theorem dX29_init_20 : decode cX29_init 20 = .ok (.invokespecial 20, 3) := dk_183 0 20 (dk_at dksX29_init_0 20 rfl rfl)
theorem dX29_init_23 : decode cX29_init 23 = .ok (.putfield 21, 3) := dk_181 0 21 (dk_at dksX29_init_1 0 rfl rfl)
theorem dX29_init_26 : decode cX29_init 26 = .ok (.aload_n 0, 1) := dk_42 (dk_at dksX29_init_1 3 rfl rfl)
theorem dX29_init_27 : decode cX29_init 27 = .ok (.bipush 12, 2) := dk_16 12 (dk_at dksX29_init_1 4 rfl rfl)
theorem dX29_init_29 : decode cX29_init 29 = .ok (.newarray .int, 2) := dk_188_10 (dk_at dksX29_init_1 6 rfl rfl)
theorem dX29_init_31 : decode cX29_init 31 = .ok (.putfield 25, 3) := dk_181 0 25 (dk_at dksX29_init_1 8 rfl rfl)
theorem dX29_init_34 : decode cX29_init 34 = .ok (.aload_n 0, 1) := dk_42 (dk_at dksX29_init_1 11 rfl rfl)
theorem dX29_init_35 : decode cX29_init 35 = .ok (.new 29, 3) := dk_187 0 29 (dk_at dksX29_init_1 12 rfl rfl)
theorem dX29_init_38 : decode cX29_init 38 = .ok (.dup, 1) := dk_89 (dk_at dksX29_init_1 15 rfl rfl)
theorem dX29_init_39 : decode cX29_init 39 = .ok (.invokespecial 31, 3) := dk_183 0 31 (dk_at dksX29_init_1 16 rfl rfl)
theorem dX29_init_42 : decode cX29_init 42 = .ok (.putfield 32, 3) := dk_181 0 32 (dk_at dksX29_init_1 19 rfl rfl)
theorem dX29_init_45 : decode cX29_init 45 = .ok (.aload_n 0, 1) := dk_42 (dk_at dksX29_init_1 22 rfl rfl)
theorem dX29_init_46 : decode cX29_init 46 = .ok (.aload_n 1, 1) := dk_43 (dk_at dksX29_init_1 23 rfl rfl)
theorem dX29_init_47 : decode cX29_init 47 = .ok (.getfield 36, 3) := dk_180 0 36 (dk_at dksX29_init_2 0 rfl rfl)
theorem dX29_init_50 : decode cX29_init 50 = .ok (.putfield 40, 3) := dk_181 0 40 (dk_at dksX29_init_2 3 rfl rfl)
theorem dX29_init_53 : decode cX29_init 53 = .ok (.aload_n 0, 1) := dk_42 (dk_at dksX29_init_2 6 rfl rfl)
theorem dX29_init_54 : decode cX29_init 54 = .ok (.getfield 12, 3) := dk_180 0 12 (dk_at dksX29_init_2 7 rfl rfl)
theorem dX29_init_57 : decode cX29_init 57 = .ok (.aload_n 1, 1) := dk_43 (dk_at dksX29_init_2 10 rfl rfl)
theorem dX29_init_58 : decode cX29_init 58 = .ok (.getfield 41, 3) := dk_180 0 41 (dk_at dksX29_init_2 11 rfl rfl)
theorem dX29_init_61 : decode cX29_init 61 = .ok (.invokevirtual 42, 3) := dk_182 0 42 (dk_at dksX29_init_2 14 rfl rfl)
theorem dX29_init_64 : decode cX29_init 64 = .ok (.pop, 1) := dk_87 (dk_at dksX29_init_2 17 rfl rfl)
theorem dX29_init_65 : decode cX29_init 65 = .ok (.aload_n 0, 1) := dk_42 (dk_at dksX29_init_2 18 rfl rfl)
theorem dX29_init_66 : decode cX29_init 66 = .ok (.getfield 21, 3) := dk_180 0 21 (dk_at dksX29_init_2 19 rfl rfl)
theorem dX29_init_69 : decode cX29_init 69 = .ok (.aload_n 1, 1) := dk_43 (dk_at dksX29_init_2 22 rfl rfl)
theorem dX29_init_70 : decode cX29_init 70 = .ok (.getfield 46, 3) := dk_180 0 46 (dk_at dksX29_init_3 0 rfl rfl)
theorem dX29_init_73 : decode cX29_init 73 = .ok (.invokevirtual 47, 3) := dk_182 0 47 (dk_at dksX29_init_3 3 rfl rfl)
theorem dX29_init_76 : decode cX29_init 76 = .ok (.aload_n 0, 1) := dk_42 (dk_at dksX29_init_3 6 rfl rfl)
theorem dX29_init_77 : decode cX29_init 77 = .ok (.aload_n 1, 1) := dk_43 (dk_at dksX29_init_3 7 rfl rfl)
theorem dX29_init_78 : decode cX29_init 78 = .ok (.getfield 50, 3) := dk_180 0 50 (dk_at dksX29_init_3 8 rfl rfl)
theorem dX29_init_81 : decode cX29_init 81 = .ok (.putfield 54, 3) := dk_181 0 54 (dk_at dksX29_init_3 11 rfl rfl)
theorem dX29_init_84 : decode cX29_init 84 = .ok (.aload_n 1, 1) := dk_43 (dk_at dksX29_init_3 14 rfl rfl)
theorem dX29_init_85 : decode cX29_init 85 = .ok (.getfield 55, 3) := dk_180 0 55 (dk_at dksX29_init_3 15 rfl rfl)
theorem dX29_init_88 : decode cX29_init 88 = .ok (.iconst 0, 1) := dk_3 (dk_at dksX29_init_3 18 rfl rfl)
theorem dX29_init_89 : decode cX29_init 89 = .ok (.aload_n 0, 1) := dk_42 (dk_at dksX29_init_3 19 rfl rfl)
theorem dX29_init_90 : decode cX29_init 90 = .ok (.getfield 25, 3) := dk_180 0 25 (dk_at dksX29_init_3 20 rfl rfl)
theorem dX29_init_93 : decode cX29_init 93 = .ok (.iconst 0, 1) := dk_3 (dk_at dksX29_init_3 23 rfl rfl)
theorem dX29_init_94 : decode cX29_init 94 = .ok (.bipush 12, 2) := dk_16 12 (dk_at dksX29_init_4 0 rfl rfl)
theorem dX29_init_96 : decode cX29_init 96 = .ok (.invokestatic 58, 3) := dk_184 0 58 (dk_at dksX29_init_4 2 rfl rfl)
theorem dX29_init_99 : decode cX29_init 99 = .ok (.iconst 0, 1) := dk_3 (dk_at dksX29_init_4 5 rfl rfl)
theorem dX29_init_100 : decode cX29_init 100 = .ok (.istore_n 2, 1) := dk_61 (dk_at dksX29_init_4 6 rfl rfl)
theorem dX29_init_101 : decode cX29_init 101 = .ok (.iload_n 2, 1) := dk_28 (dk_at dksX29_init_4 7 rfl rfl)
theorem dX29_init_102 : decode cX29_init 102 = .ok (.aload_n 1, 1) := dk_43 (dk_at dksX29_init_4 8 rfl rfl)
theorem dX29_init_103 : decode cX29_init 103 = .ok (.getfield 64, 3) := dk_180 0 64 (dk_at dksX29_init_4 9 rfl rfl)
theorem dX29_init_106 : decode cX29_init 106 = .ok (.invokevirtual 65, 3) := dk_182 0 65 (dk_at dksX29_init_4 12 rfl rfl)
theorem dX29_init_109 : decode cX29_init 109 = .ok (.if_icmp .ge 28, 3) := dk_162 0 28 (dk_at dksX29_init_4 15 rfl rfl)
theorem dX29_init_112 : decode cX29_init 112 = .ok (.aload_n 0, 1) := dk_42 (dk_at dksX29_init_4 18 rfl rfl)
theorem dX29_init_113 : decode cX29_init 113 = .ok (.getfield 32, 3) := dk_180 0 32 (dk_at dksX29_init_4 19 rfl rfl)
theorem dX29_init_116 : decode cX29_init 116 = .ok (.aload_n 1, 1) := dk_43 (dk_at dksX29_init_4 22 rfl rfl)
theorem dX29_init_117 : decode cX29_init 117 = .ok (.getfield 64, 3) := dk_180 0 64 (dk_at dksX29_init_5 0 rfl rfl)
theorem dX29_init_120 : decode cX29_init 120 = .ok (.iload_n 2, 1) := dk_28 (dk_at dksX29_init_5 3 rfl rfl)
theorem dX29_init_121 : decode cX29_init 121 = .ok (.invokevirtual 69, 3) := dk_182 0 69 (dk_at dksX29_init_5 4 rfl rfl)
theorem dX29_init_124 : decode cX29_init 124 = .ok (.checkcast 73, 3) := dk_192 0 73 (dk_at dksX29_init_5 7 rfl rfl)
theorem dX29_init_127 : decode cX29_init 127 = .ok (.invokevirtual 74, 3) := dk_182 0 74 (dk_at dksX29_init_5 10 rfl rfl)
theorem dX29_init_130 : decode cX29_init 130 = .ok (.pop, 1) := dk_87 (dk_at dksX29_init_5 13 rfl rfl)
theorem dX29_init_131 : decode cX29_init 131 = .ok (.iinc 2 1, 3) := dk_132 2 1 (dk_at dksX29_init_5 14 rfl rfl)
theorem dX29_init_134 : decode cX29_init 134 = .ok (.goto (-33), 3) := dk_167 255 223 (dk_at dksX29_init_5 17 rfl rfl)
theorem dX29_init_137 : decode cX29_init 137 = .ok (.return_, 1) := dk_177 (dk_at dksX29_init_5 20 rfl rfl)
theorem q141 : (Jvm.Cond.initialized "FogNets$Mark") ∈ lw_all := lw_g (lw_at lw_m1 49 rfl) rfl
theorem q446 : (Jvm.Cond.fieldLinkNest "FogNets$Mark" (36 : Nat) "FogNets" "ridge" "LFogNets$Ridge;" "FogNets") ∈ lw_tbl := lw_at lw_m2 114 rfl
theorem q448 : (Jvm.Cond.fieldLinkNest "FogNets$Mark" (41 : Nat) "FogNets" "hung" "LFogNets$Hung;" "FogNets") ∈ lw_tbl := lw_at lw_m2 116 rfl
theorem q450 : (Jvm.Cond.fieldLinkNest "FogNets$Mark" (46 : Nat) "FogNets" "tanks" "LFogNets$Tanks;" "FogNets") ∈ lw_tbl := lw_at lw_m2 118 rfl
theorem q452 : (Jvm.Cond.fieldLinkNest "FogNets$Mark" (50 : Nat) "FogNets" "night" "I" "FogNets") ∈ lw_tbl := lw_at lw_m2 120 rfl
theorem q454 : (Jvm.Cond.fieldLinkNest "FogNets$Mark" (55 : Nat) "FogNets" "lastTook" "[I" "FogNets") ∈ lw_tbl := lw_at lw_m2 122 rfl
theorem q456 : (Jvm.Cond.fieldLinkNest "FogNets$Mark" (64 : Nat) "FogNets" "jars" "Ljava/util/ArrayList;" "FogNets") ∈ lw_tbl := lw_at lw_m2 124 rfl
theorem q869 : (Jvm.Cond.selects "FogNets$Mark" ({ cls := "java/lang/Object", name := "getClass", desc := "()Ljava/lang/Class;" } : Jvm.MethodName) ({ cls := "java/lang/Object", name := "getClass", desc := "()Ljava/lang/Class;" } : Jvm.MethodName)) ∈ lw_all := lw_g (lw_at lw_m4 57 rfl) rfl
theorem q1456 : (Jvm.Cond.instantiable "FogNets$Mark" (6 : Nat)) ∈ lw_all := lw_g (lw_at lw_m6 164 rfl) rfl
theorem q1458 : (Jvm.Cond.instanceMethod ({ cls := "FogNets$Mark", name := "<init>", desc := "(LFogNets;)V" } : Jvm.MethodName)) ∈ lw_all := lw_g (lw_at lw_m6 166 rfl) rfl
theorem q1459 : (Jvm.Cond.code ({ cls := "FogNets$Mark", name := "<init>", desc := "(LFogNets;)V" } : Jvm.MethodName) prog_12_method_1_code (3 : Nat) (Option.none : Option Jvm.ClassFile.FieldType)) ∈ lw_all := lw_g (lw_at lw_m6 167 rfl) rfl
theorem q1460 : (Jvm.Cond.methodLink "FogNets$Mark" (3 : Nat) ({ cls := "java/lang/Object", name := "<init>", desc := "()V" } : Jvm.MethodName)) ∈ lw_all := lw_g (lw_at lw_m6 168 rfl) rfl
theorem q1461 : (Jvm.Cond.classLink "FogNets$Mark" (9 : Nat) "FogNets$Hung") ∈ lw_all := lw_g (lw_at lw_m6 169 rfl) rfl
theorem q1462 : (Jvm.Cond.methodLinkNest "FogNets$Mark" (11 : Nat) ({ cls := "FogNets$Hung", name := "<init>", desc := "()V" } : Jvm.MethodName) "FogNets") ∈ lw_tbl := lw_at lw_m6 170 rfl
theorem q1463 : (Jvm.Cond.classLink "FogNets$Mark" (18 : Nat) "FogNets$Tanks") ∈ lw_all := lw_g (lw_at lw_m6 171 rfl) rfl
theorem q1464 : (Jvm.Cond.methodLinkNest "FogNets$Mark" (20 : Nat) ({ cls := "FogNets$Tanks", name := "<init>", desc := "()V" } : Jvm.MethodName) "FogNets") ∈ lw_tbl := lw_at lw_m6 172 rfl
theorem q1465 : (Jvm.Cond.classLink "FogNets$Mark" (29 : Nat) "java/util/ArrayList") ∈ lw_all := lw_g (lw_at lw_m6 173 rfl) rfl
theorem q1466 : (Jvm.Cond.methodLink "FogNets$Mark" (31 : Nat) ({ cls := "java/util/ArrayList", name := "<init>", desc := "()V" } : Jvm.MethodName)) ∈ lw_all := lw_g (lw_at lw_m6 174 rfl) rfl
theorem q1467 : (Jvm.Cond.methodLink "FogNets$Mark" (42 : Nat) ({ cls := "FogNets$Hung", name := "copies", desc := "(LFogNets$Hung;)LFogNets$Hung;" } : Jvm.MethodName)) ∈ lw_all := lw_g (lw_at lw_m6 175 rfl) rfl
theorem q1468 : (Jvm.Cond.methodLink "FogNets$Mark" (47 : Nat) ({ cls := "FogNets$Tanks", name := "copies", desc := "(LFogNets$Tanks;)V" } : Jvm.MethodName)) ∈ lw_all := lw_g (lw_at lw_m6 176 rfl) rfl
theorem q1469 : (Jvm.Cond.methodLink "FogNets$Mark" (58 : Nat) ({ cls := "java/lang/System", name := "arraycopy", desc := "(Ljava/lang/Object;ILjava/lang/Object;II)V" } : Jvm.MethodName)) ∈ lw_all := lw_g (lw_at lw_m6 177 rfl) rfl
theorem q1470 : (Jvm.Cond.methodLink "FogNets$Mark" (65 : Nat) ({ cls := "java/util/ArrayList", name := "size", desc := "()I" } : Jvm.MethodName)) ∈ lw_all := lw_g (lw_at lw_m6 178 rfl) rfl
theorem q1471 : (Jvm.Cond.methodLink "FogNets$Mark" (69 : Nat) ({ cls := "java/util/ArrayList", name := "get", desc := "(I)Ljava/lang/Object;" } : Jvm.MethodName)) ∈ lw_all := lw_g (lw_at lw_m6 179 rfl) rfl
theorem q1472 : (Jvm.Cond.classLink "FogNets$Mark" (73 : Nat) "[I") ∈ lw_all := lw_g (lw_at lw_m6 180 rfl) rfl
theorem q1473 : (Jvm.Cond.methodLink "FogNets$Mark" (74 : Nat) ({ cls := "java/util/ArrayList", name := "add", desc := "(Ljava/lang/Object;)Z" } : Jvm.MethodName)) ∈ lw_all := lw_g (lw_at lw_m6 181 rfl) rfl
theorem q1474 : (Jvm.Cond.fieldLink "FogNets$Mark" (40 : Nat) "FogNets$Mark" "ridge" "LFogNets$Ridge;") ∈ lw_all := lw_g (lw_at lw_m6 182 rfl) rfl
theorem q1476 : (Jvm.Cond.fieldLink "FogNets$Mark" (12 : Nat) "FogNets$Mark" "hung" "LFogNets$Hung;") ∈ lw_all := lw_g (lw_at lw_m6 184 rfl) rfl
theorem q1478 : (Jvm.Cond.fieldLink "FogNets$Mark" (21 : Nat) "FogNets$Mark" "tanks" "LFogNets$Tanks;") ∈ lw_all := lw_g (lw_at lw_m6 186 rfl) rfl
theorem q1480 : (Jvm.Cond.fieldLink "FogNets$Mark" (54 : Nat) "FogNets$Mark" "night" "I") ∈ lw_all := lw_g (lw_at lw_m6 188 rfl) rfl
theorem q1482 : (Jvm.Cond.fieldLink "FogNets$Mark" (25 : Nat) "FogNets$Mark" "took" "[I") ∈ lw_all := lw_g (lw_at lw_m6 190 rfl) rfl
theorem q1484 : (Jvm.Cond.fieldLink "FogNets$Mark" (32 : Nat) "FogNets$Mark" "jars" "Ljava/util/ArrayList;") ∈ lw_all := lw_g (lw_at lw_m6 192 rfl) rfl
theorem q1486 : (Jvm.Cond.laysFinal "FogNets$Mark" "FogNets$Mark" "ridge" "LFogNets$Ridge;") ∈ lw_all := lw_g (lw_at lw_m6 194 rfl) rfl
theorem q1487 : (Jvm.Cond.soleField "FogNets$Mark" "ridge") ∈ lw_all := lw_g (lw_at lw_m6 195 rfl) rfl
theorem q1488 : (Jvm.Cond.laysFinal "FogNets$Mark" "FogNets$Mark" "hung" "LFogNets$Hung;") ∈ lw_all := lw_g (lw_at lw_m6 196 rfl) rfl
theorem q1489 : (Jvm.Cond.soleField "FogNets$Mark" "hung") ∈ lw_all := lw_g (lw_at lw_m6 197 rfl) rfl
theorem q1490 : (Jvm.Cond.laysFinal "FogNets$Mark" "FogNets$Mark" "tanks" "LFogNets$Tanks;") ∈ lw_all := lw_g (lw_at lw_m6 198 rfl) rfl
theorem q1491 : (Jvm.Cond.soleField "FogNets$Mark" "tanks") ∈ lw_all := lw_g (lw_at lw_m6 199 rfl) rfl
theorem q1492 : (Jvm.Cond.laysFinal "FogNets$Mark" "FogNets$Mark" "night" "I") ∈ lw_all := lw_g (lw_at lw_m6 200 rfl) rfl
theorem q1493 : (Jvm.Cond.soleField "FogNets$Mark" "night") ∈ lw_all := lw_g (lw_at lw_m6 201 rfl) rfl
theorem q1494 : (Jvm.Cond.laysFinal "FogNets$Mark" "FogNets$Mark" "took" "[I") ∈ lw_all := lw_g (lw_at lw_m6 202 rfl) rfl
theorem q1495 : (Jvm.Cond.soleField "FogNets$Mark" "took") ∈ lw_all := lw_g (lw_at lw_m6 203 rfl) rfl
theorem q1496 : (Jvm.Cond.laysFinal "FogNets$Mark" "FogNets$Mark" "jars" "Ljava/util/ArrayList;") ∈ lw_all := lw_g (lw_at lw_m6 204 rfl) rfl
theorem q1497 : (Jvm.Cond.soleField "FogNets$Mark" "jars") ∈ lw_all := lw_g (lw_at lw_m6 205 rfl) rfl
theorem q1498 : (Jvm.Cond.superclass "FogNets$Mark" "java/lang/Object") ∈ lw_all := lw_g (lw_at lw_m6 206 rfl) rfl
theorem q2063 : (Jvm.Cond.castable "FogNets$Mark" "java/lang/Object") ∈ lw_tbl := lw_at lw_m9 51 rfl
theorem in_X29 : ∀ w ∈ wsX290, w ∈ lw_all := lw_in wsX290 [1486, 1488, 1490, 1492, 1494, 1496] (by decide +kernel) (by decide +kernel)

/-! java/util/AbstractCollection -/
set_option maxRecDepth 100000
def RJ0 : String := "java/util/AbstractCollection"
abbrev cJ0_init : ByteArray := prog_50_method_1_code
def yJ0_init : MethodName := ⟨RJ0, "<init>", "()V"⟩
theorem dJ0_init_0 : decode cJ0_init 0 = .ok (.aload_n 0, 1) := by decide +kernel
theorem dJ0_init_1 : decode cJ0_init 1 = .ok (.invokespecial 1, 3) := by decide +kernel
theorem dJ0_init_4 : decode cJ0_init 4 = .ok (.return_, 1) := by decide +kernel
theorem q96 : (Jvm.Cond.initialized "java/util/AbstractCollection") ∈ lw_all := lw_g (lw_at lw_m1 4 rfl) rfl
theorem q249 : (Jvm.Cond.instanceMethod ({ cls := "java/util/AbstractCollection", name := "<init>", desc := "()V" } : Jvm.MethodName)) ∈ lw_all := lw_g (lw_at lw_m1 157 rfl) rfl
theorem q250 : (Jvm.Cond.code ({ cls := "java/util/AbstractCollection", name := "<init>", desc := "()V" } : Jvm.MethodName) prog_50_method_1_code (1 : Nat) (Option.none : Option Jvm.ClassFile.FieldType)) ∈ lw_all := lw_g (lw_at lw_m1 158 rfl) rfl
theorem q251 : (Jvm.Cond.methodLink "java/util/AbstractCollection" (1 : Nat) ({ cls := "java/lang/Object", name := "<init>", desc := "()V" } : Jvm.MethodName)) ∈ lw_all := lw_g (lw_at lw_m1 159 rfl) rfl

/-! java/util/AbstractList -/
set_option maxRecDepth 100000
def RJ1 : String := "java/util/AbstractList"
abbrev cJ1_init : ByteArray := prog_51_method_1_code
def yJ1_init : MethodName := ⟨RJ1, "<init>", "()V"⟩
def dkwJ1_init_0 : List UInt8 := [42, 183, 0, 1, 42, 3, 181, 0, 7, 177]
abbrev dktJ1_init_0 : List UInt8 := dkwJ1_init_0 ++ []
theorem dksJ1_init_0 : cJ1_init.data.toList.drop 0 = dktJ1_init_0 := by decide +kernel
theorem dJ1_init_0 : decode cJ1_init 0 = .ok (.aload_n 0, 1) := dk_42 (dk_at dksJ1_init_0 0 rfl rfl)
theorem dJ1_init_1 : decode cJ1_init 1 = .ok (.invokespecial 1, 3) := dk_183 0 1 (dk_at dksJ1_init_0 1 rfl rfl)
theorem dJ1_init_4 : decode cJ1_init 4 = .ok (.aload_n 0, 1) := dk_42 (dk_at dksJ1_init_0 4 rfl rfl)
theorem dJ1_init_5 : decode cJ1_init 5 = .ok (.iconst 0, 1) := dk_3 (dk_at dksJ1_init_0 5 rfl rfl)
theorem dJ1_init_6 : decode cJ1_init 6 = .ok (.putfield 7, 3) := dk_181 0 7 (dk_at dksJ1_init_0 6 rfl rfl)
theorem dJ1_init_9 : decode cJ1_init 9 = .ok (.return_, 1) := dk_177 (dk_at dksJ1_init_0 9 rfl rfl)
theorem q97 : (Jvm.Cond.initialized "java/util/AbstractList") ∈ lw_all := lw_g (lw_at lw_m1 5 rfl) rfl
theorem q246 : (Jvm.Cond.instanceMethod ({ cls := "java/util/AbstractList", name := "<init>", desc := "()V" } : Jvm.MethodName)) ∈ lw_all := lw_g (lw_at lw_m1 154 rfl) rfl
theorem q247 : (Jvm.Cond.code ({ cls := "java/util/AbstractList", name := "<init>", desc := "()V" } : Jvm.MethodName) prog_51_method_1_code (1 : Nat) (Option.none : Option Jvm.ClassFile.FieldType)) ∈ lw_all := lw_g (lw_at lw_m1 155 rfl) rfl
theorem q248 : (Jvm.Cond.methodLink "java/util/AbstractList" (1 : Nat) ({ cls := "java/util/AbstractCollection", name := "<init>", desc := "()V" } : Jvm.MethodName)) ∈ lw_all := lw_g (lw_at lw_m1 156 rfl) rfl
theorem q258 : (Jvm.Cond.fieldLink "java/util/AbstractList" (7 : Nat) "java/util/AbstractList" "modCount" "I") ∈ lw_all := lw_g (lw_at lw_m1 166 rfl) rfl
theorem q266 : (Jvm.Cond.soleField "java/util/AbstractList" "modCount") ∈ lw_all := lw_g (lw_at lw_m1 174 rfl) rfl

/-! java/util/ArrayList -/
set_option maxRecDepth 100000
def RJ2 : String := "java/util/ArrayList"
def TJ2 : u_T := fun k => match k with
  | 0 => ("java/util/AbstractList", "modCount", "I", false)
  | 1 => ("java/util/ArrayList", "elementData", "[Ljava/lang/Object;", false)
  | _ => ("java/util/ArrayList", "size", "I", false)
def tyJ2 : Nat → FieldType := fun k => match k with
  | 0 => .int
  | 1 => .array (.object "java/lang/Object")
  | _ => .int
abbrev wsJ20 : List Cond := u_ws RJ2 TJ2 3
theorem nmJ2 : ∀ a, a < 3 → ∀ b, b < 3 → a ≠ b → (TJ2 a).2.1 ≠ (TJ2 b).2.1 := by decide +kernel
theorem tyJ2_ok : ∀ k, k < 3 → parseFieldDescriptor (TJ2 k).2.2.1 = some (tyJ2 k) := by decide +kernel
abbrev cJ2_init : ByteArray := prog_52_method_1_code
def yJ2_init : MethodName := ⟨RJ2, "<init>", "(I)V"⟩
def dkwJ2_init_2 : List UInt8 := [182, 0, 25, 27, 182, 0, 29, 182, 0, 32, 183, 0, 36, 191, 177]
abbrev dktJ2_init_2 : List UInt8 := dkwJ2_init_2 ++ []
def dkwJ2_init_1 : List UInt8 := [178, 0, 15, 181, 0, 9, 167, 0, 30, 187, 0, 18, 89, 187, 0, 20, 89, 183, 0, 22, 18, 23]
abbrev dktJ2_init_1 : List UInt8 := dkwJ2_init_1 ++ dktJ2_init_2
def dkwJ2_init_0 : List UInt8 := [42, 183, 0, 1, 27, 158, 0, 14, 42, 27, 189, 0, 7, 181, 0, 9, 167, 0, 44, 27, 154, 0, 13, 42]
abbrev dktJ2_init_0 : List UInt8 := dkwJ2_init_0 ++ dktJ2_init_1
theorem dksJ2_init_0 : cJ2_init.data.toList.drop 0 = dktJ2_init_0 := by decide +kernel
theorem dksJ2_init_1 : cJ2_init.data.toList.drop 24 = dktJ2_init_1 := dk_seg dksJ2_init_0 24 rfl rfl
theorem dksJ2_init_2 : cJ2_init.data.toList.drop 46 = dktJ2_init_2 := dk_seg dksJ2_init_1 22 rfl rfl
theorem dJ2_init_0 : decode cJ2_init 0 = .ok (.aload_n 0, 1) := dk_42 (dk_at dksJ2_init_0 0 rfl rfl)
theorem dJ2_init_1 : decode cJ2_init 1 = .ok (.invokespecial 1, 3) := dk_183 0 1 (dk_at dksJ2_init_0 1 rfl rfl)
theorem dJ2_init_4 : decode cJ2_init 4 = .ok (.iload_n 1, 1) := dk_27 (dk_at dksJ2_init_0 4 rfl rfl)
theorem dJ2_init_5 : decode cJ2_init 5 = .ok (.ifCond .le 14, 3) := dk_158 0 14 (dk_at dksJ2_init_0 5 rfl rfl)
theorem dJ2_init_8 : decode cJ2_init 8 = .ok (.aload_n 0, 1) := dk_42 (dk_at dksJ2_init_0 8 rfl rfl)
theorem dJ2_init_9 : decode cJ2_init 9 = .ok (.iload_n 1, 1) := dk_27 (dk_at dksJ2_init_0 9 rfl rfl)
theorem dJ2_init_10 : decode cJ2_init 10 = .ok (.anewarray 7, 3) := dk_189 0 7 (dk_at dksJ2_init_0 10 rfl rfl)
theorem dJ2_init_13 : decode cJ2_init 13 = .ok (.putfield 9, 3) := dk_181 0 9 (dk_at dksJ2_init_0 13 rfl rfl)
theorem dJ2_init_16 : decode cJ2_init 16 = .ok (.goto 44, 3) := dk_167 0 44 (dk_at dksJ2_init_0 16 rfl rfl)
theorem dJ2_init_19 : decode cJ2_init 19 = .ok (.iload_n 1, 1) := dk_27 (dk_at dksJ2_init_0 19 rfl rfl)
theorem dJ2_init_20 : decode cJ2_init 20 = .ok (.ifCond .ne 13, 3) := dk_154 0 13 (dk_at dksJ2_init_0 20 rfl rfl)
theorem dJ2_init_23 : decode cJ2_init 23 = .ok (.aload_n 0, 1) := dk_42 (dk_at dksJ2_init_0 23 rfl rfl)
theorem dJ2_init_24 : decode cJ2_init 24 = .ok (.getstatic 15, 3) := dk_178 0 15 (dk_at dksJ2_init_1 0 rfl rfl)
theorem dJ2_init_27 : decode cJ2_init 27 = .ok (.putfield 9, 3) := dk_181 0 9 (dk_at dksJ2_init_1 3 rfl rfl)
theorem dJ2_init_30 : decode cJ2_init 30 = .ok (.goto 30, 3) := dk_167 0 30 (dk_at dksJ2_init_1 6 rfl rfl)
theorem dJ2_init_33 : decode cJ2_init 33 = .ok (.new 18, 3) := dk_187 0 18 (dk_at dksJ2_init_1 9 rfl rfl)
theorem dJ2_init_36 : decode cJ2_init 36 = .ok (.dup, 1) := dk_89 (dk_at dksJ2_init_1 12 rfl rfl)
theorem dJ2_init_37 : decode cJ2_init 37 = .ok (.new 20, 3) := dk_187 0 20 (dk_at dksJ2_init_1 13 rfl rfl)
theorem dJ2_init_40 : decode cJ2_init 40 = .ok (.dup, 1) := dk_89 (dk_at dksJ2_init_1 16 rfl rfl)
theorem dJ2_init_41 : decode cJ2_init 41 = .ok (.invokespecial 22, 3) := dk_183 0 22 (dk_at dksJ2_init_1 17 rfl rfl)
theorem dJ2_init_44 : decode cJ2_init 44 = .ok (.ldc 23, 2) := dk_18 23 (dk_at dksJ2_init_1 20 rfl rfl)
theorem dJ2_init_46 : decode cJ2_init 46 = .ok (.invokevirtual 25, 3) := dk_182 0 25 (dk_at dksJ2_init_2 0 rfl rfl)
theorem dJ2_init_49 : decode cJ2_init 49 = .ok (.iload_n 1, 1) := dk_27 (dk_at dksJ2_init_2 3 rfl rfl)
theorem dJ2_init_50 : decode cJ2_init 50 = .ok (.invokevirtual 29, 3) := dk_182 0 29 (dk_at dksJ2_init_2 4 rfl rfl)
theorem dJ2_init_53 : decode cJ2_init 53 = .ok (.invokevirtual 32, 3) := dk_182 0 32 (dk_at dksJ2_init_2 7 rfl rfl)
theorem dJ2_init_56 : decode cJ2_init 56 = .ok (.invokespecial 36, 3) := dk_183 0 36 (dk_at dksJ2_init_2 10 rfl rfl)
theorem dJ2_init_59 : decode cJ2_init 59 = .ok (.athrow, 1) := dk_191 (dk_at dksJ2_init_2 13 rfl rfl)
theorem dJ2_init_60 : decode cJ2_init 60 = .ok (.return_, 1) := dk_177 (dk_at dksJ2_init_2 14 rfl rfl)
abbrev cJ2_init_2 : ByteArray := prog_52_method_2_code
def yJ2_init_2 : MethodName := ⟨RJ2, "<init>", "()V"⟩
def dkwJ2_init_2_0 : List UInt8 := [42, 183, 0, 1, 42, 178, 0, 39, 181, 0, 9, 177]
abbrev dktJ2_init_2_0 : List UInt8 := dkwJ2_init_2_0 ++ []
theorem dksJ2_init_2_0 : cJ2_init_2.data.toList.drop 0 = dktJ2_init_2_0 := by decide +kernel
theorem dJ2_init_2_0 : decode cJ2_init_2 0 = .ok (.aload_n 0, 1) := dk_42 (dk_at dksJ2_init_2_0 0 rfl rfl)
theorem dJ2_init_2_1 : decode cJ2_init_2 1 = .ok (.invokespecial 1, 3) := dk_183 0 1 (dk_at dksJ2_init_2_0 1 rfl rfl)
theorem dJ2_init_2_4 : decode cJ2_init_2 4 = .ok (.aload_n 0, 1) := dk_42 (dk_at dksJ2_init_2_0 4 rfl rfl)
theorem dJ2_init_2_5 : decode cJ2_init_2 5 = .ok (.getstatic 39, 3) := dk_178 0 39 (dk_at dksJ2_init_2_0 5 rfl rfl)
theorem dJ2_init_2_8 : decode cJ2_init_2 8 = .ok (.putfield 9, 3) := dk_181 0 9 (dk_at dksJ2_init_2_0 8 rfl rfl)
theorem dJ2_init_2_11 : decode cJ2_init_2 11 = .ok (.return_, 1) := dk_177 (dk_at dksJ2_init_2_0 11 rfl rfl)
abbrev cJ2_size : ByteArray := prog_52_method_8_code
def yJ2_size : MethodName := ⟨RJ2, "size", "()I"⟩
theorem dJ2_size_0 : decode cJ2_size 0 = .ok (.aload_n 0, 1) := by decide +kernel
theorem dJ2_size_1 : decode cJ2_size 1 = .ok (.getfield 48, 3) := by decide +kernel
theorem dJ2_size_4 : decode cJ2_size 4 = .ok (.ireturn, 1) := by decide +kernel
abbrev cJ2_get : ByteArray := prog_52_method_20_code
def yJ2_get : MethodName := ⟨RJ2, "get", "(I)Ljava/lang/Object;"⟩
def dkwJ2_get_0 : List UInt8 := [27, 42, 180, 0, 48, 184, 0, 118, 87, 42, 27, 182, 0, 123, 176]
abbrev dktJ2_get_0 : List UInt8 := dkwJ2_get_0 ++ []
theorem dksJ2_get_0 : cJ2_get.data.toList.drop 0 = dktJ2_get_0 := by decide +kernel
theorem dJ2_get_0 : decode cJ2_get 0 = .ok (.iload_n 1, 1) := dk_27 (dk_at dksJ2_get_0 0 rfl rfl)
theorem dJ2_get_1 : decode cJ2_get 1 = .ok (.aload_n 0, 1) := dk_42 (dk_at dksJ2_get_0 1 rfl rfl)
theorem dJ2_get_2 : decode cJ2_get 2 = .ok (.getfield 48, 3) := dk_180 0 48 (dk_at dksJ2_get_0 2 rfl rfl)
theorem dJ2_get_5 : decode cJ2_get 5 = .ok (.invokestatic 118, 3) := dk_184 0 118 (dk_at dksJ2_get_0 5 rfl rfl)
theorem dJ2_get_8 : decode cJ2_get 8 = .ok (.pop, 1) := dk_87 (dk_at dksJ2_get_0 8 rfl rfl)
theorem dJ2_get_9 : decode cJ2_get 9 = .ok (.aload_n 0, 1) := dk_42 (dk_at dksJ2_get_0 9 rfl rfl)
theorem dJ2_get_10 : decode cJ2_get 10 = .ok (.iload_n 1, 1) := dk_27 (dk_at dksJ2_get_0 10 rfl rfl)
theorem dJ2_get_11 : decode cJ2_get 11 = .ok (.invokevirtual 123, 3) := dk_182 0 123 (dk_at dksJ2_get_0 11 rfl rfl)
theorem dJ2_get_14 : decode cJ2_get 14 = .ok (.areturn, 1) := dk_176 (dk_at dksJ2_get_0 14 rfl rfl)
abbrev cJ2_elementData : ByteArray := prog_52_method_18_code
def yJ2_elementData : MethodName := ⟨RJ2, "elementData", "(I)Ljava/lang/Object;"⟩
def dkwJ2_elementData_0 : List UInt8 := [42, 180, 0, 9, 27, 50, 176]
abbrev dktJ2_elementData_0 : List UInt8 := dkwJ2_elementData_0 ++ []
theorem dksJ2_elementData_0 : cJ2_elementData.data.toList.drop 0 = dktJ2_elementData_0 := by decide +kernel
theorem dJ2_elementData_0 : decode cJ2_elementData 0 = .ok (.aload_n 0, 1) := dk_42 (dk_at dksJ2_elementData_0 0 rfl rfl)
theorem dJ2_elementData_1 : decode cJ2_elementData 1 = .ok (.getfield 9, 3) := dk_180 0 9 (dk_at dksJ2_elementData_0 1 rfl rfl)
theorem dJ2_elementData_4 : decode cJ2_elementData 4 = .ok (.iload_n 1, 1) := dk_27 (dk_at dksJ2_elementData_0 4 rfl rfl)
theorem dJ2_elementData_5 : decode cJ2_elementData 5 = .ok (.aaload, 1) := dk_50 (dk_at dksJ2_elementData_0 5 rfl rfl)
theorem dJ2_elementData_6 : decode cJ2_elementData 6 = .ok (.areturn, 1) := dk_176 (dk_at dksJ2_elementData_0 6 rfl rfl)
abbrev cJ2_isEmpty : ByteArray := prog_52_method_9_code
def yJ2_isEmpty : MethodName := ⟨RJ2, "isEmpty", "()Z"⟩
def dkwJ2_isEmpty_0 : List UInt8 := [42, 180, 0, 48, 154, 0, 7, 4, 167, 0, 4, 3, 172]
abbrev dktJ2_isEmpty_0 : List UInt8 := dkwJ2_isEmpty_0 ++ []
theorem dksJ2_isEmpty_0 : cJ2_isEmpty.data.toList.drop 0 = dktJ2_isEmpty_0 := by decide +kernel
theorem dJ2_isEmpty_0 : decode cJ2_isEmpty 0 = .ok (.aload_n 0, 1) := dk_42 (dk_at dksJ2_isEmpty_0 0 rfl rfl)
theorem dJ2_isEmpty_1 : decode cJ2_isEmpty 1 = .ok (.getfield 48, 3) := dk_180 0 48 (dk_at dksJ2_isEmpty_0 1 rfl rfl)
theorem dJ2_isEmpty_4 : decode cJ2_isEmpty 4 = .ok (.ifCond .ne 7, 3) := dk_154 0 7 (dk_at dksJ2_isEmpty_0 4 rfl rfl)
theorem dJ2_isEmpty_7 : decode cJ2_isEmpty 7 = .ok (.iconst 1, 1) := dk_4 (dk_at dksJ2_isEmpty_0 7 rfl rfl)
theorem dJ2_isEmpty_8 : decode cJ2_isEmpty 8 = .ok (.goto 4, 3) := dk_167 0 4 (dk_at dksJ2_isEmpty_0 8 rfl rfl)
theorem dJ2_isEmpty_11 : decode cJ2_isEmpty 11 = .ok (.iconst 0, 1) := dk_3 (dk_at dksJ2_isEmpty_0 11 rfl rfl)
theorem dJ2_isEmpty_12 : decode cJ2_isEmpty 12 = .ok (.ireturn, 1) := dk_172 (dk_at dksJ2_isEmpty_0 12 rfl rfl)
abbrev cJ2_add : ByteArray := prog_52_method_25_code
def yJ2_add : MethodName := ⟨RJ2, "add", "(Ljava/lang/Object;)Z"⟩
def dkwJ2_add_1 : List UInt8 := [172]
abbrev dktJ2_add_1 : List UInt8 := dkwJ2_add_1 ++ []
def dkwJ2_add_0 : List UInt8 := [42, 89, 180, 0, 63, 4, 96, 181, 0, 63, 42, 43, 42, 180, 0, 9, 42, 180, 0, 48, 182, 0, 131, 4]
abbrev dktJ2_add_0 : List UInt8 := dkwJ2_add_0 ++ dktJ2_add_1
theorem dksJ2_add_0 : cJ2_add.data.toList.drop 0 = dktJ2_add_0 := by decide +kernel
theorem dksJ2_add_1 : cJ2_add.data.toList.drop 24 = dktJ2_add_1 := dk_seg dksJ2_add_0 24 rfl rfl
theorem dJ2_add_0 : decode cJ2_add 0 = .ok (.aload_n 0, 1) := dk_42 (dk_at dksJ2_add_0 0 rfl rfl)
theorem dJ2_add_1 : decode cJ2_add 1 = .ok (.dup, 1) := dk_89 (dk_at dksJ2_add_0 1 rfl rfl)
theorem dJ2_add_2 : decode cJ2_add 2 = .ok (.getfield 63, 3) := dk_180 0 63 (dk_at dksJ2_add_0 2 rfl rfl)
theorem dJ2_add_5 : decode cJ2_add 5 = .ok (.iconst 1, 1) := dk_4 (dk_at dksJ2_add_0 5 rfl rfl)
theorem dJ2_add_6 : decode cJ2_add 6 = .ok (.iadd, 1) := dk_96 (dk_at dksJ2_add_0 6 rfl rfl)
theorem dJ2_add_7 : decode cJ2_add 7 = .ok (.putfield 63, 3) := dk_181 0 63 (dk_at dksJ2_add_0 7 rfl rfl)
theorem dJ2_add_10 : decode cJ2_add 10 = .ok (.aload_n 0, 1) := dk_42 (dk_at dksJ2_add_0 10 rfl rfl)
theorem dJ2_add_11 : decode cJ2_add 11 = .ok (.aload_n 1, 1) := dk_43 (dk_at dksJ2_add_0 11 rfl rfl)
theorem dJ2_add_12 : decode cJ2_add 12 = .ok (.aload_n 0, 1) := dk_42 (dk_at dksJ2_add_0 12 rfl rfl)
theorem dJ2_add_13 : decode cJ2_add 13 = .ok (.getfield 9, 3) := dk_180 0 9 (dk_at dksJ2_add_0 13 rfl rfl)
theorem dJ2_add_16 : decode cJ2_add 16 = .ok (.aload_n 0, 1) := dk_42 (dk_at dksJ2_add_0 16 rfl rfl)
theorem dJ2_add_17 : decode cJ2_add 17 = .ok (.getfield 48, 3) := dk_180 0 48 (dk_at dksJ2_add_0 17 rfl rfl)
theorem dJ2_add_20 : decode cJ2_add 20 = .ok (.invokevirtual 131, 3) := dk_182 0 131 (dk_at dksJ2_add_0 20 rfl rfl)
theorem dJ2_add_23 : decode cJ2_add 23 = .ok (.iconst 1, 1) := dk_4 (dk_at dksJ2_add_0 23 rfl rfl)
theorem dJ2_add_24 : decode cJ2_add 24 = .ok (.ireturn, 1) := dk_172 (dk_at dksJ2_add_1 0 rfl rfl)
abbrev cJ2_add_2 : ByteArray := prog_52_method_24_code
def yJ2_add_2 : MethodName := ⟨RJ2, "add", "(Ljava/lang/Object;[Ljava/lang/Object;I)V"⟩
def dkwJ2_add_2_0 : List UInt8 := [29, 44, 190, 160, 0, 8, 42, 182, 0, 129, 77, 44, 29, 43, 83, 42, 29, 4, 96, 181, 0, 48, 177]
abbrev dktJ2_add_2_0 : List UInt8 := dkwJ2_add_2_0 ++ []
theorem dksJ2_add_2_0 : cJ2_add_2.data.toList.drop 0 = dktJ2_add_2_0 := by decide +kernel
theorem dJ2_add_2_0 : decode cJ2_add_2 0 = .ok (.iload_n 3, 1) := dk_29 (dk_at dksJ2_add_2_0 0 rfl rfl)
theorem dJ2_add_2_1 : decode cJ2_add_2 1 = .ok (.aload_n 2, 1) := dk_44 (dk_at dksJ2_add_2_0 1 rfl rfl)
theorem dJ2_add_2_2 : decode cJ2_add_2 2 = .ok (.arraylength, 1) := dk_190 (dk_at dksJ2_add_2_0 2 rfl rfl)
theorem dJ2_add_2_3 : decode cJ2_add_2 3 = .ok (.if_icmp .ne 8, 3) := dk_160 0 8 (dk_at dksJ2_add_2_0 3 rfl rfl)
theorem dJ2_add_2_6 : decode cJ2_add_2 6 = .ok (.aload_n 0, 1) := dk_42 (dk_at dksJ2_add_2_0 6 rfl rfl)
theorem dJ2_add_2_7 : decode cJ2_add_2 7 = .ok (.invokevirtual 129, 3) := dk_182 0 129 (dk_at dksJ2_add_2_0 7 rfl rfl)
theorem dJ2_add_2_10 : decode cJ2_add_2 10 = .ok (.astore_n 2, 1) := dk_77 (dk_at dksJ2_add_2_0 10 rfl rfl)
theorem dJ2_add_2_11 : decode cJ2_add_2 11 = .ok (.aload_n 2, 1) := dk_44 (dk_at dksJ2_add_2_0 11 rfl rfl)
theorem dJ2_add_2_12 : decode cJ2_add_2 12 = .ok (.iload_n 3, 1) := dk_29 (dk_at dksJ2_add_2_0 12 rfl rfl)
theorem dJ2_add_2_13 : decode cJ2_add_2 13 = .ok (.aload_n 1, 1) := dk_43 (dk_at dksJ2_add_2_0 13 rfl rfl)
theorem dJ2_add_2_14 : decode cJ2_add_2 14 = .ok (.aastore, 1) := dk_83 (dk_at dksJ2_add_2_0 14 rfl rfl)
theorem dJ2_add_2_15 : decode cJ2_add_2 15 = .ok (.aload_n 0, 1) := dk_42 (dk_at dksJ2_add_2_0 15 rfl rfl)
theorem dJ2_add_2_16 : decode cJ2_add_2 16 = .ok (.iload_n 3, 1) := dk_29 (dk_at dksJ2_add_2_0 16 rfl rfl)
theorem dJ2_add_2_17 : decode cJ2_add_2 17 = .ok (.iconst 1, 1) := dk_4 (dk_at dksJ2_add_2_0 17 rfl rfl)
theorem dJ2_add_2_18 : decode cJ2_add_2 18 = .ok (.iadd, 1) := dk_96 (dk_at dksJ2_add_2_0 18 rfl rfl)
theorem dJ2_add_2_19 : decode cJ2_add_2 19 = .ok (.putfield 48, 3) := dk_181 0 48 (dk_at dksJ2_add_2_0 19 rfl rfl)
theorem dJ2_add_2_22 : decode cJ2_add_2 22 = .ok (.return_, 1) := dk_177 (dk_at dksJ2_add_2_0 22 rfl rfl)
abbrev cJ2_grow : ByteArray := prog_52_method_7_code
def yJ2_grow : MethodName := ⟨RJ2, "grow", "()[Ljava/lang/Object;"⟩
def dkwJ2_grow_0 : List UInt8 := [42, 42, 180, 0, 48, 4, 96, 182, 0, 69, 176]
abbrev dktJ2_grow_0 : List UInt8 := dkwJ2_grow_0 ++ []
theorem dksJ2_grow_0 : cJ2_grow.data.toList.drop 0 = dktJ2_grow_0 := by decide +kernel
theorem dJ2_grow_0 : decode cJ2_grow 0 = .ok (.aload_n 0, 1) := dk_42 (dk_at dksJ2_grow_0 0 rfl rfl)
theorem dJ2_grow_1 : decode cJ2_grow 1 = .ok (.aload_n 0, 1) := dk_42 (dk_at dksJ2_grow_0 1 rfl rfl)
theorem dJ2_grow_2 : decode cJ2_grow 2 = .ok (.getfield 48, 3) := dk_180 0 48 (dk_at dksJ2_grow_0 2 rfl rfl)
theorem dJ2_grow_5 : decode cJ2_grow 5 = .ok (.iconst 1, 1) := dk_4 (dk_at dksJ2_grow_0 5 rfl rfl)
theorem dJ2_grow_6 : decode cJ2_grow 6 = .ok (.iadd, 1) := dk_96 (dk_at dksJ2_grow_0 6 rfl rfl)
theorem dJ2_grow_7 : decode cJ2_grow 7 = .ok (.invokevirtual 69, 3) := dk_182 0 69 (dk_at dksJ2_grow_0 7 rfl rfl)
theorem dJ2_grow_10 : decode cJ2_grow 10 = .ok (.areturn, 1) := dk_176 (dk_at dksJ2_grow_0 10 rfl rfl)
abbrev cJ2_grow_2 : ByteArray := prog_52_method_6_code
def yJ2_grow_2 : MethodName := ⟨RJ2, "grow", "(I)[Ljava/lang/Object;"⟩
def dkwJ2_grow_2_2 : List UInt8 := [27, 184, 0, 79, 189, 0, 7, 90, 181, 0, 9, 176]
abbrev dktJ2_grow_2_2 : List UInt8 := dkwJ2_grow_2_2 ++ []
def dkwJ2_grow_2_1 : List UInt8 := [28, 4, 122, 184, 0, 73, 62, 42, 42, 180, 0, 9, 29, 184, 0, 66, 90, 181, 0, 9, 176, 42, 16, 10]
abbrev dktJ2_grow_2_1 : List UInt8 := dkwJ2_grow_2_1 ++ dktJ2_grow_2_2
def dkwJ2_grow_2_0 : List UInt8 := [42, 180, 0, 9, 190, 61, 28, 157, 0, 13, 42, 180, 0, 9, 178, 0, 39, 165, 0, 28, 28, 27, 28, 100]
abbrev dktJ2_grow_2_0 : List UInt8 := dkwJ2_grow_2_0 ++ dktJ2_grow_2_1
theorem dksJ2_grow_2_0 : cJ2_grow_2.data.toList.drop 0 = dktJ2_grow_2_0 := by decide +kernel
theorem dksJ2_grow_2_1 : cJ2_grow_2.data.toList.drop 24 = dktJ2_grow_2_1 := dk_seg dksJ2_grow_2_0 24 rfl rfl
theorem dksJ2_grow_2_2 : cJ2_grow_2.data.toList.drop 48 = dktJ2_grow_2_2 := dk_seg dksJ2_grow_2_1 24 rfl rfl
theorem dJ2_grow_2_0 : decode cJ2_grow_2 0 = .ok (.aload_n 0, 1) := dk_42 (dk_at dksJ2_grow_2_0 0 rfl rfl)
theorem dJ2_grow_2_1 : decode cJ2_grow_2 1 = .ok (.getfield 9, 3) := dk_180 0 9 (dk_at dksJ2_grow_2_0 1 rfl rfl)
theorem dJ2_grow_2_4 : decode cJ2_grow_2 4 = .ok (.arraylength, 1) := dk_190 (dk_at dksJ2_grow_2_0 4 rfl rfl)
theorem dJ2_grow_2_5 : decode cJ2_grow_2 5 = .ok (.istore_n 2, 1) := dk_61 (dk_at dksJ2_grow_2_0 5 rfl rfl)
theorem dJ2_grow_2_6 : decode cJ2_grow_2 6 = .ok (.iload_n 2, 1) := dk_28 (dk_at dksJ2_grow_2_0 6 rfl rfl)
theorem dJ2_grow_2_7 : decode cJ2_grow_2 7 = .ok (.ifCond .gt 13, 3) := dk_157 0 13 (dk_at dksJ2_grow_2_0 7 rfl rfl)
theorem dJ2_grow_2_10 : decode cJ2_grow_2 10 = .ok (.aload_n 0, 1) := dk_42 (dk_at dksJ2_grow_2_0 10 rfl rfl)
theorem dJ2_grow_2_11 : decode cJ2_grow_2 11 = .ok (.getfield 9, 3) := dk_180 0 9 (dk_at dksJ2_grow_2_0 11 rfl rfl)
theorem dJ2_grow_2_14 : decode cJ2_grow_2 14 = .ok (.getstatic 39, 3) := dk_178 0 39 (dk_at dksJ2_grow_2_0 14 rfl rfl)
theorem dJ2_grow_2_17 : decode cJ2_grow_2 17 = .ok (.if_acmp .eq 28, 3) := dk_165 0 28 (dk_at dksJ2_grow_2_0 17 rfl rfl)
theorem dJ2_grow_2_20 : decode cJ2_grow_2 20 = .ok (.iload_n 2, 1) := dk_28 (dk_at dksJ2_grow_2_0 20 rfl rfl)
theorem dJ2_grow_2_21 : decode cJ2_grow_2 21 = .ok (.iload_n 1, 1) := dk_27 (dk_at dksJ2_grow_2_0 21 rfl rfl)
theorem dJ2_grow_2_22 : decode cJ2_grow_2 22 = .ok (.iload_n 2, 1) := dk_28 (dk_at dksJ2_grow_2_0 22 rfl rfl)
theorem dJ2_grow_2_23 : decode cJ2_grow_2 23 = .ok (.isub, 1) := dk_100 (dk_at dksJ2_grow_2_0 23 rfl rfl)
theorem dJ2_grow_2_24 : decode cJ2_grow_2 24 = .ok (.iload_n 2, 1) := dk_28 (dk_at dksJ2_grow_2_1 0 rfl rfl)
theorem dJ2_grow_2_25 : decode cJ2_grow_2 25 = .ok (.iconst 1, 1) := dk_4 (dk_at dksJ2_grow_2_1 1 rfl rfl)
theorem dJ2_grow_2_26 : decode cJ2_grow_2 26 = .ok (.ishr, 1) := dk_122 (dk_at dksJ2_grow_2_1 2 rfl rfl)
theorem dJ2_grow_2_27 : decode cJ2_grow_2 27 = .ok (.invokestatic 73, 3) := dk_184 0 73 (dk_at dksJ2_grow_2_1 3 rfl rfl)
theorem dJ2_grow_2_30 : decode cJ2_grow_2 30 = .ok (.istore_n 3, 1) := dk_62 (dk_at dksJ2_grow_2_1 6 rfl rfl)
theorem dJ2_grow_2_31 : decode cJ2_grow_2 31 = .ok (.aload_n 0, 1) := dk_42 (dk_at dksJ2_grow_2_1 7 rfl rfl)
theorem dJ2_grow_2_32 : decode cJ2_grow_2 32 = .ok (.aload_n 0, 1) := dk_42 (dk_at dksJ2_grow_2_1 8 rfl rfl)
theorem dJ2_grow_2_33 : decode cJ2_grow_2 33 = .ok (.getfield 9, 3) := dk_180 0 9 (dk_at dksJ2_grow_2_1 9 rfl rfl)
theorem dJ2_grow_2_36 : decode cJ2_grow_2 36 = .ok (.iload_n 3, 1) := dk_29 (dk_at dksJ2_grow_2_1 12 rfl rfl)
theorem dJ2_grow_2_37 : decode cJ2_grow_2 37 = .ok (.invokestatic 66, 3) := dk_184 0 66 (dk_at dksJ2_grow_2_1 13 rfl rfl)
theorem dJ2_grow_2_40 : decode cJ2_grow_2 40 = .ok (.dup_x1, 1) := dk_90 (dk_at dksJ2_grow_2_1 16 rfl rfl)
theorem dJ2_grow_2_41 : decode cJ2_grow_2 41 = .ok (.putfield 9, 3) := dk_181 0 9 (dk_at dksJ2_grow_2_1 17 rfl rfl)
theorem dJ2_grow_2_44 : decode cJ2_grow_2 44 = .ok (.areturn, 1) := dk_176 (dk_at dksJ2_grow_2_1 20 rfl rfl)
theorem dJ2_grow_2_45 : decode cJ2_grow_2 45 = .ok (.aload_n 0, 1) := dk_42 (dk_at dksJ2_grow_2_1 21 rfl rfl)
theorem dJ2_grow_2_46 : decode cJ2_grow_2 46 = .ok (.bipush 10, 2) := dk_16 10 (dk_at dksJ2_grow_2_1 22 rfl rfl)
theorem dJ2_grow_2_48 : decode cJ2_grow_2 48 = .ok (.iload_n 1, 1) := dk_27 (dk_at dksJ2_grow_2_2 0 rfl rfl)
theorem dJ2_grow_2_49 : decode cJ2_grow_2 49 = .ok (.invokestatic 79, 3) := dk_184 0 79 (dk_at dksJ2_grow_2_2 1 rfl rfl)
theorem dJ2_grow_2_52 : decode cJ2_grow_2 52 = .ok (.anewarray 7, 3) := dk_189 0 7 (dk_at dksJ2_grow_2_2 4 rfl rfl)
theorem dJ2_grow_2_55 : decode cJ2_grow_2 55 = .ok (.dup_x1, 1) := dk_90 (dk_at dksJ2_grow_2_2 7 rfl rfl)
theorem dJ2_grow_2_56 : decode cJ2_grow_2 56 = .ok (.putfield 9, 3) := dk_181 0 9 (dk_at dksJ2_grow_2_2 8 rfl rfl)
theorem dJ2_grow_2_59 : decode cJ2_grow_2 59 = .ok (.areturn, 1) := dk_176 (dk_at dksJ2_grow_2_2 11 rfl rfl)
abbrev cJ2_clear : ByteArray := prog_52_method_40_code
def yJ2_clear : MethodName := ⟨RJ2, "clear", "()V"⟩
def dkwJ2_clear_1 : List UInt8 := [181, 0, 48, 62, 29, 28, 162, 0, 13, 43, 29, 1, 83, 132, 3, 1, 167, 255, 244, 177]
abbrev dktJ2_clear_1 : List UInt8 := dkwJ2_clear_1 ++ []
def dkwJ2_clear_0 : List UInt8 := [42, 89, 180, 0, 63, 4, 96, 181, 0, 63, 42, 180, 0, 9, 76, 42, 180, 0, 48, 61, 42, 3, 90]
abbrev dktJ2_clear_0 : List UInt8 := dkwJ2_clear_0 ++ dktJ2_clear_1
theorem dksJ2_clear_0 : cJ2_clear.data.toList.drop 0 = dktJ2_clear_0 := by decide +kernel
theorem dksJ2_clear_1 : cJ2_clear.data.toList.drop 23 = dktJ2_clear_1 := dk_seg dksJ2_clear_0 23 rfl rfl
theorem dJ2_clear_0 : decode cJ2_clear 0 = .ok (.aload_n 0, 1) := dk_42 (dk_at dksJ2_clear_0 0 rfl rfl)
theorem dJ2_clear_1 : decode cJ2_clear 1 = .ok (.dup, 1) := dk_89 (dk_at dksJ2_clear_0 1 rfl rfl)
theorem dJ2_clear_2 : decode cJ2_clear 2 = .ok (.getfield 63, 3) := dk_180 0 63 (dk_at dksJ2_clear_0 2 rfl rfl)
theorem dJ2_clear_5 : decode cJ2_clear 5 = .ok (.iconst 1, 1) := dk_4 (dk_at dksJ2_clear_0 5 rfl rfl)
theorem dJ2_clear_6 : decode cJ2_clear 6 = .ok (.iadd, 1) := dk_96 (dk_at dksJ2_clear_0 6 rfl rfl)
theorem dJ2_clear_7 : decode cJ2_clear 7 = .ok (.putfield 63, 3) := dk_181 0 63 (dk_at dksJ2_clear_0 7 rfl rfl)
theorem dJ2_clear_10 : decode cJ2_clear 10 = .ok (.aload_n 0, 1) := dk_42 (dk_at dksJ2_clear_0 10 rfl rfl)
theorem dJ2_clear_11 : decode cJ2_clear 11 = .ok (.getfield 9, 3) := dk_180 0 9 (dk_at dksJ2_clear_0 11 rfl rfl)
theorem dJ2_clear_14 : decode cJ2_clear 14 = .ok (.astore_n 1, 1) := dk_76 (dk_at dksJ2_clear_0 14 rfl rfl)
theorem dJ2_clear_15 : decode cJ2_clear 15 = .ok (.aload_n 0, 1) := dk_42 (dk_at dksJ2_clear_0 15 rfl rfl)
theorem dJ2_clear_16 : decode cJ2_clear 16 = .ok (.getfield 48, 3) := dk_180 0 48 (dk_at dksJ2_clear_0 16 rfl rfl)
theorem dJ2_clear_19 : decode cJ2_clear 19 = .ok (.istore_n 2, 1) := dk_61 (dk_at dksJ2_clear_0 19 rfl rfl)
theorem dJ2_clear_20 : decode cJ2_clear 20 = .ok (.aload_n 0, 1) := dk_42 (dk_at dksJ2_clear_0 20 rfl rfl)
theorem dJ2_clear_21 : decode cJ2_clear 21 = .ok (.iconst 0, 1) := dk_3 (dk_at dksJ2_clear_0 21 rfl rfl)
theorem dJ2_clear_22 : decode cJ2_clear 22 = .ok (.dup_x1, 1) := dk_90 (dk_at dksJ2_clear_0 22 rfl rfl)
theorem dJ2_clear_23 : decode cJ2_clear 23 = .ok (.putfield 48, 3) := dk_181 0 48 (dk_at dksJ2_clear_1 0 rfl rfl)
theorem dJ2_clear_26 : decode cJ2_clear 26 = .ok (.istore_n 3, 1) := dk_62 (dk_at dksJ2_clear_1 3 rfl rfl)
theorem dJ2_clear_27 : decode cJ2_clear 27 = .ok (.iload_n 3, 1) := dk_29 (dk_at dksJ2_clear_1 4 rfl rfl)
theorem dJ2_clear_28 : decode cJ2_clear 28 = .ok (.iload_n 2, 1) := dk_28 (dk_at dksJ2_clear_1 5 rfl rfl)
theorem dJ2_clear_29 : decode cJ2_clear 29 = .ok (.if_icmp .ge 13, 3) := dk_162 0 13 (dk_at dksJ2_clear_1 6 rfl rfl)
theorem dJ2_clear_32 : decode cJ2_clear 32 = .ok (.aload_n 1, 1) := dk_43 (dk_at dksJ2_clear_1 9 rfl rfl)
theorem dJ2_clear_33 : decode cJ2_clear 33 = .ok (.iload_n 3, 1) := dk_29 (dk_at dksJ2_clear_1 10 rfl rfl)
theorem dJ2_clear_34 : decode cJ2_clear 34 = .ok (.aconst_null, 1) := dk_1 (dk_at dksJ2_clear_1 11 rfl rfl)
theorem dJ2_clear_35 : decode cJ2_clear 35 = .ok (.aastore, 1) := dk_83 (dk_at dksJ2_clear_1 12 rfl rfl)
theorem dJ2_clear_36 : decode cJ2_clear 36 = .ok (.iinc 3 1, 3) := dk_132 3 1 (dk_at dksJ2_clear_1 13 rfl rfl)
theorem dJ2_clear_39 : decode cJ2_clear 39 = .ok (.goto (-12), 3) := dk_167 255 244 (dk_at dksJ2_clear_1 16 rfl rfl)
theorem dJ2_clear_42 : decode cJ2_clear 42 = .ok (.return_, 1) := dk_177 (dk_at dksJ2_clear_1 19 rfl rfl)
theorem q98 : (Jvm.Cond.initialized "java/util/ArrayList") ∈ lw_all := lw_g (lw_at lw_m1 6 rfl) rfl
theorem q241 : (Jvm.Cond.instantiable "java/util/ArrayList" (3 : Nat)) ∈ lw_all := lw_g (lw_at lw_m1 149 rfl) rfl
theorem q243 : (Jvm.Cond.instanceMethod ({ cls := "java/util/ArrayList", name := "<init>", desc := "(I)V" } : Jvm.MethodName)) ∈ lw_all := lw_g (lw_at lw_m1 151 rfl) rfl
theorem q244 : (Jvm.Cond.code ({ cls := "java/util/ArrayList", name := "<init>", desc := "(I)V" } : Jvm.MethodName) prog_52_method_1_code (2 : Nat) (Option.none : Option Jvm.ClassFile.FieldType)) ∈ lw_all := lw_g (lw_at lw_m1 152 rfl) rfl
theorem q245 : (Jvm.Cond.methodLink "java/util/ArrayList" (1 : Nat) ({ cls := "java/util/AbstractList", name := "<init>", desc := "()V" } : Jvm.MethodName)) ∈ lw_all := lw_g (lw_at lw_m1 153 rfl) rfl
theorem q252 : (Jvm.Cond.classLink "java/util/ArrayList" (7 : Nat) "java/lang/Object") ∈ lw_all := lw_g (lw_at lw_m1 160 rfl) rfl
theorem q254 : (Jvm.Cond.fieldLink "java/util/ArrayList" (15 : Nat) "java/util/ArrayList" "EMPTY_ELEMENTDATA" "[Ljava/lang/Object;") ∈ lw_all := lw_g (lw_at lw_m1 162 rfl) rfl
theorem q255 : (Jvm.Cond.laysStatic "java/util/ArrayList" "EMPTY_ELEMENTDATA" "[Ljava/lang/Object;") ∈ lw_tbl := lw_at lw_m1 163 rfl
theorem q256 : (Jvm.Cond.fieldLink "java/util/ArrayList" (9 : Nat) "java/util/ArrayList" "elementData" "[Ljava/lang/Object;") ∈ lw_all := lw_g (lw_at lw_m1 164 rfl) rfl
theorem q257 : (Jvm.Cond.fieldLink "java/util/ArrayList" (48 : Nat) "java/util/ArrayList" "size" "I") ∈ lw_all := lw_g (lw_at lw_m1 165 rfl) rfl
theorem q259 : (Jvm.Cond.fieldLink "java/util/ArrayList" (63 : Nat) "java/util/ArrayList" "modCount" "I") ∈ lw_all := lw_g (lw_at lw_m1 167 rfl) rfl
theorem q260 : (Jvm.Cond.sameField "java/util/ArrayList" "java/util/AbstractList" "modCount" "I") ∈ lw_all := lw_g (lw_at lw_m1 168 rfl) rfl
theorem q261 : (Jvm.Cond.lays "java/util/ArrayList" "java/util/ArrayList" "elementData" "[Ljava/lang/Object;") ∈ lw_all := lw_g (lw_at lw_m1 169 rfl) rfl
theorem q262 : (Jvm.Cond.soleField "java/util/ArrayList" "elementData") ∈ lw_all := lw_g (lw_at lw_m1 170 rfl) rfl
theorem q263 : (Jvm.Cond.lays "java/util/ArrayList" "java/util/ArrayList" "size" "I") ∈ lw_all := lw_g (lw_at lw_m1 171 rfl) rfl
theorem q264 : (Jvm.Cond.soleField "java/util/ArrayList" "size") ∈ lw_all := lw_g (lw_at lw_m1 172 rfl) rfl
theorem q265 : (Jvm.Cond.lays "java/util/ArrayList" "java/util/AbstractList" "modCount" "I") ∈ lw_all := lw_g (lw_at lw_m1 173 rfl) rfl
theorem q267 : (Jvm.Cond.superclass "java/util/ArrayList" "java/util/AbstractList") ∈ lw_all := lw_g (lw_at lw_m1 175 rfl) rfl
theorem q398 : (Jvm.Cond.instanceMethod ({ cls := "java/util/ArrayList", name := "<init>", desc := "()V" } : Jvm.MethodName)) ∈ lw_all := lw_g (lw_at lw_m2 66 rfl) rfl
theorem q399 : (Jvm.Cond.code ({ cls := "java/util/ArrayList", name := "<init>", desc := "()V" } : Jvm.MethodName) prog_52_method_2_code (1 : Nat) (Option.none : Option Jvm.ClassFile.FieldType)) ∈ lw_all := lw_g (lw_at lw_m2 67 rfl) rfl
theorem q400 : (Jvm.Cond.fieldLink "java/util/ArrayList" (39 : Nat) "java/util/ArrayList" "DEFAULTCAPACITY_EMPTY_ELEMENTDATA" "[Ljava/lang/Object;") ∈ lw_all := lw_g (lw_at lw_m2 68 rfl) rfl
theorem q401 : (Jvm.Cond.laysStatic "java/util/ArrayList" "DEFAULTCAPACITY_EMPTY_ELEMENTDATA" "[Ljava/lang/Object;") ∈ lw_tbl := lw_at lw_m2 69 rfl
theorem q424 : (Jvm.Cond.instanceMethod ({ cls := "java/util/ArrayList", name := "size", desc := "()I" } : Jvm.MethodName)) ∈ lw_all := lw_g (lw_at lw_m2 92 rfl) rfl
theorem q425 : (Jvm.Cond.selects "java/util/ArrayList" ({ cls := "java/util/ArrayList", name := "size", desc := "()I" } : Jvm.MethodName) ({ cls := "java/util/ArrayList", name := "size", desc := "()I" } : Jvm.MethodName)) ∈ lw_all := lw_g (lw_at lw_m2 93 rfl) rfl
theorem q426 : (Jvm.Cond.code ({ cls := "java/util/ArrayList", name := "size", desc := "()I" } : Jvm.MethodName) prog_52_method_8_code (1 : Nat) (Option.some Jvm.ClassFile.FieldType.int)) ∈ lw_all := lw_g (lw_at lw_m2 94 rfl) rfl
theorem q428 : (Jvm.Cond.instanceMethod ({ cls := "java/util/ArrayList", name := "get", desc := "(I)Ljava/lang/Object;" } : Jvm.MethodName)) ∈ lw_all := lw_g (lw_at lw_m2 96 rfl) rfl
theorem q429 : (Jvm.Cond.selects "java/util/ArrayList" ({ cls := "java/util/ArrayList", name := "get", desc := "(I)Ljava/lang/Object;" } : Jvm.MethodName) ({ cls := "java/util/ArrayList", name := "get", desc := "(I)Ljava/lang/Object;" } : Jvm.MethodName)) ∈ lw_all := lw_g (lw_at lw_m2 97 rfl) rfl
theorem q430 : (Jvm.Cond.code ({ cls := "java/util/ArrayList", name := "get", desc := "(I)Ljava/lang/Object;" } : Jvm.MethodName) prog_52_method_20_code (2 : Nat) (Option.some (Jvm.ClassFile.FieldType.object "java/lang/Object"))) ∈ lw_all := lw_g (lw_at lw_m2 98 rfl) rfl
theorem q431 : (Jvm.Cond.methodLink "java/util/ArrayList" (118 : Nat) ({ cls := "java/util/Objects", name := "checkIndex", desc := "(II)I" } : Jvm.MethodName)) ∈ lw_all := lw_g (lw_at lw_m2 99 rfl) rfl
theorem q437 : (Jvm.Cond.methodLink "java/util/ArrayList" (123 : Nat) ({ cls := "java/util/ArrayList", name := "elementData", desc := "(I)Ljava/lang/Object;" } : Jvm.MethodName)) ∈ lw_all := lw_g (lw_at lw_m2 105 rfl) rfl
theorem q438 : (Jvm.Cond.instanceMethod ({ cls := "java/util/ArrayList", name := "elementData", desc := "(I)Ljava/lang/Object;" } : Jvm.MethodName)) ∈ lw_all := lw_g (lw_at lw_m2 106 rfl) rfl
theorem q439 : (Jvm.Cond.selects "java/util/ArrayList" ({ cls := "java/util/ArrayList", name := "elementData", desc := "(I)Ljava/lang/Object;" } : Jvm.MethodName) ({ cls := "java/util/ArrayList", name := "elementData", desc := "(I)Ljava/lang/Object;" } : Jvm.MethodName)) ∈ lw_all := lw_g (lw_at lw_m2 107 rfl) rfl
theorem q440 : (Jvm.Cond.code ({ cls := "java/util/ArrayList", name := "elementData", desc := "(I)Ljava/lang/Object;" } : Jvm.MethodName) prog_52_method_18_code (2 : Nat) (Option.some (Jvm.ClassFile.FieldType.object "java/lang/Object"))) ∈ lw_all := lw_g (lw_at lw_m2 108 rfl) rfl
theorem q653 : (Jvm.Cond.instanceMethod ({ cls := "java/util/ArrayList", name := "isEmpty", desc := "()Z" } : Jvm.MethodName)) ∈ lw_all := lw_g (lw_at lw_m3 81 rfl) rfl
theorem q654 : (Jvm.Cond.selects "java/util/ArrayList" ({ cls := "java/util/ArrayList", name := "isEmpty", desc := "()Z" } : Jvm.MethodName) ({ cls := "java/util/ArrayList", name := "isEmpty", desc := "()Z" } : Jvm.MethodName)) ∈ lw_all := lw_g (lw_at lw_m3 82 rfl) rfl
theorem q655 : (Jvm.Cond.code ({ cls := "java/util/ArrayList", name := "isEmpty", desc := "()Z" } : Jvm.MethodName) prog_52_method_9_code (1 : Nat) (Option.some Jvm.ClassFile.FieldType.boolean)) ∈ lw_all := lw_g (lw_at lw_m3 83 rfl) rfl
theorem q831 : (Jvm.Cond.instanceMethod ({ cls := "java/util/ArrayList", name := "add", desc := "(Ljava/lang/Object;)Z" } : Jvm.MethodName)) ∈ lw_all := lw_g (lw_at lw_m4 19 rfl) rfl
theorem q832 : (Jvm.Cond.selects "java/util/ArrayList" ({ cls := "java/util/ArrayList", name := "add", desc := "(Ljava/lang/Object;)Z" } : Jvm.MethodName) ({ cls := "java/util/ArrayList", name := "add", desc := "(Ljava/lang/Object;)Z" } : Jvm.MethodName)) ∈ lw_all := lw_g (lw_at lw_m4 20 rfl) rfl
theorem q833 : (Jvm.Cond.code ({ cls := "java/util/ArrayList", name := "add", desc := "(Ljava/lang/Object;)Z" } : Jvm.MethodName) prog_52_method_25_code (2 : Nat) (Option.some Jvm.ClassFile.FieldType.boolean)) ∈ lw_all := lw_g (lw_at lw_m4 21 rfl) rfl
theorem q834 : (Jvm.Cond.methodLink "java/util/ArrayList" (131 : Nat) ({ cls := "java/util/ArrayList", name := "add", desc := "(Ljava/lang/Object;[Ljava/lang/Object;I)V" } : Jvm.MethodName)) ∈ lw_all := lw_g (lw_at lw_m4 22 rfl) rfl
theorem q835 : (Jvm.Cond.privateMethod ({ cls := "java/util/ArrayList", name := "add", desc := "(Ljava/lang/Object;[Ljava/lang/Object;I)V" } : Jvm.MethodName)) ∈ lw_tbl := lw_at lw_m4 23 rfl
theorem q836 : (Jvm.Cond.instanceMethod ({ cls := "java/util/ArrayList", name := "add", desc := "(Ljava/lang/Object;[Ljava/lang/Object;I)V" } : Jvm.MethodName)) ∈ lw_all := lw_g (lw_at lw_m4 24 rfl) rfl
theorem q837 : (Jvm.Cond.code ({ cls := "java/util/ArrayList", name := "add", desc := "(Ljava/lang/Object;[Ljava/lang/Object;I)V" } : Jvm.MethodName) prog_52_method_24_code (4 : Nat) (Option.none : Option Jvm.ClassFile.FieldType)) ∈ lw_all := lw_g (lw_at lw_m4 25 rfl) rfl
theorem q838 : (Jvm.Cond.methodLink "java/util/ArrayList" (129 : Nat) ({ cls := "java/util/ArrayList", name := "grow", desc := "()[Ljava/lang/Object;" } : Jvm.MethodName)) ∈ lw_all := lw_g (lw_at lw_m4 26 rfl) rfl
theorem q839 : (Jvm.Cond.privateMethod ({ cls := "java/util/ArrayList", name := "grow", desc := "()[Ljava/lang/Object;" } : Jvm.MethodName)) ∈ lw_tbl := lw_at lw_m4 27 rfl
theorem q840 : (Jvm.Cond.instanceMethod ({ cls := "java/util/ArrayList", name := "grow", desc := "()[Ljava/lang/Object;" } : Jvm.MethodName)) ∈ lw_all := lw_g (lw_at lw_m4 28 rfl) rfl
theorem q841 : (Jvm.Cond.code ({ cls := "java/util/ArrayList", name := "grow", desc := "()[Ljava/lang/Object;" } : Jvm.MethodName) prog_52_method_7_code (1 : Nat) (Option.some (Jvm.ClassFile.FieldType.array (Jvm.ClassFile.FieldType.object "java/lang/Object")))) ∈ lw_all := lw_g (lw_at lw_m4 29 rfl) rfl
theorem q842 : (Jvm.Cond.methodLink "java/util/ArrayList" (69 : Nat) ({ cls := "java/util/ArrayList", name := "grow", desc := "(I)[Ljava/lang/Object;" } : Jvm.MethodName)) ∈ lw_all := lw_g (lw_at lw_m4 30 rfl) rfl
theorem q843 : (Jvm.Cond.privateMethod ({ cls := "java/util/ArrayList", name := "grow", desc := "(I)[Ljava/lang/Object;" } : Jvm.MethodName)) ∈ lw_tbl := lw_at lw_m4 31 rfl
theorem q844 : (Jvm.Cond.instanceMethod ({ cls := "java/util/ArrayList", name := "grow", desc := "(I)[Ljava/lang/Object;" } : Jvm.MethodName)) ∈ lw_all := lw_g (lw_at lw_m4 32 rfl) rfl
theorem q845 : (Jvm.Cond.code ({ cls := "java/util/ArrayList", name := "grow", desc := "(I)[Ljava/lang/Object;" } : Jvm.MethodName) prog_52_method_6_code (4 : Nat) (Option.some (Jvm.ClassFile.FieldType.array (Jvm.ClassFile.FieldType.object "java/lang/Object")))) ∈ lw_all := lw_g (lw_at lw_m4 33 rfl) rfl
theorem q846 : (Jvm.Cond.methodLink "java/util/ArrayList" (73 : Nat) ({ cls := "jdk/internal/util/ArraysSupport", name := "newLength", desc := "(III)I" } : Jvm.MethodName)) ∈ lw_all := lw_g (lw_at lw_m4 34 rfl) rfl
theorem q854 : (Jvm.Cond.methodLink "java/util/ArrayList" (66 : Nat) ({ cls := "java/util/Arrays", name := "copyOf", desc := "([Ljava/lang/Object;I)[Ljava/lang/Object;" } : Jvm.MethodName)) ∈ lw_all := lw_g (lw_at lw_m4 42 rfl) rfl
theorem q888 : (Jvm.Cond.selects "java/util/ArrayList" ({ cls := "java/lang/Object", name := "getClass", desc := "()Ljava/lang/Class;" } : Jvm.MethodName) ({ cls := "java/lang/Object", name := "getClass", desc := "()Ljava/lang/Class;" } : Jvm.MethodName)) ∈ lw_all := lw_g (lw_at lw_m4 76 rfl) rfl
theorem q900 : (Jvm.Cond.methodLink "java/util/ArrayList" (79 : Nat) ({ cls := "java/lang/Math", name := "max", desc := "(II)I" } : Jvm.MethodName)) ∈ lw_all := lw_g (lw_at lw_m4 88 rfl) rfl
theorem q1075 : (Jvm.Cond.instanceMethod ({ cls := "java/util/ArrayList", name := "clear", desc := "()V" } : Jvm.MethodName)) ∈ lw_all := lw_g (lw_at lw_m5 23 rfl) rfl
theorem q1076 : (Jvm.Cond.selects "java/util/ArrayList" ({ cls := "java/util/ArrayList", name := "clear", desc := "()V" } : Jvm.MethodName) ({ cls := "java/util/ArrayList", name := "clear", desc := "()V" } : Jvm.MethodName)) ∈ lw_all := lw_g (lw_at lw_m5 24 rfl) rfl
theorem q1077 : (Jvm.Cond.code ({ cls := "java/util/ArrayList", name := "clear", desc := "()V" } : Jvm.MethodName) prog_52_method_40_code (4 : Nat) (Option.none : Option Jvm.ClassFile.FieldType)) ∈ lw_all := lw_g (lw_at lw_m5 25 rfl) rfl
theorem q2067 : (Jvm.Cond.castable "java/util/ArrayList" "java/lang/Object") ∈ lw_tbl := lw_at lw_m9 55 rfl
theorem in_J2 : ∀ w ∈ wsJ20, w ∈ lw_all := lw_in wsJ20 [265, 261, 263] (by decide +kernel) (by decide +kernel)

/-! java/util/Objects -/
set_option maxRecDepth 100000
def RJ3 : String := "java/util/Objects"
abbrev cJ3_checkIndex : ByteArray := prog_57_method_17_code
def yJ3_checkIndex : MethodName := ⟨RJ3, "checkIndex", "(II)I"⟩
def dkwJ3_checkIndex_0 : List UInt8 := [26, 27, 1, 184, 0, 105, 172]
abbrev dktJ3_checkIndex_0 : List UInt8 := dkwJ3_checkIndex_0 ++ []
theorem dksJ3_checkIndex_0 : cJ3_checkIndex.data.toList.drop 0 = dktJ3_checkIndex_0 := by decide +kernel
theorem dJ3_checkIndex_0 : decode cJ3_checkIndex 0 = .ok (.iload_n 0, 1) := dk_26 (dk_at dksJ3_checkIndex_0 0 rfl rfl)
theorem dJ3_checkIndex_1 : decode cJ3_checkIndex 1 = .ok (.iload_n 1, 1) := dk_27 (dk_at dksJ3_checkIndex_0 1 rfl rfl)
theorem dJ3_checkIndex_2 : decode cJ3_checkIndex 2 = .ok (.aconst_null, 1) := dk_1 (dk_at dksJ3_checkIndex_0 2 rfl rfl)
theorem dJ3_checkIndex_3 : decode cJ3_checkIndex 3 = .ok (.invokestatic 105, 3) := dk_184 0 105 (dk_at dksJ3_checkIndex_0 3 rfl rfl)
theorem dJ3_checkIndex_6 : decode cJ3_checkIndex 6 = .ok (.ireturn, 1) := dk_172 (dk_at dksJ3_checkIndex_0 6 rfl rfl)
theorem q103 : (Jvm.Cond.initialized "java/util/Objects") ∈ lw_all := lw_g (lw_at lw_m1 11 rfl) rfl
theorem q432 : (Jvm.Cond.static ({ cls := "java/util/Objects", name := "checkIndex", desc := "(II)I" } : Jvm.MethodName)) ∈ lw_all := lw_g (lw_at lw_m2 100 rfl) rfl
theorem q433 : (Jvm.Cond.code ({ cls := "java/util/Objects", name := "checkIndex", desc := "(II)I" } : Jvm.MethodName) prog_57_method_17_code (2 : Nat) (Option.some Jvm.ClassFile.FieldType.int)) ∈ lw_all := lw_g (lw_at lw_m2 101 rfl) rfl
theorem q434 : (Jvm.Cond.methodLink "java/util/Objects" (105 : Nat) ({ cls := "jdk/internal/util/Preconditions", name := "checkIndex", desc := "(IILjava/util/function/BiFunction;)I" } : Jvm.MethodName)) ∈ lw_all := lw_g (lw_at lw_m2 102 rfl) rfl

/-! jdk/internal/util/Preconditions -/
set_option maxRecDepth 100000
def RJ4 : String := "jdk/internal/util/Preconditions"
abbrev cJ4_checkIndex : ByteArray := prog_61_method_11_code
def yJ4_checkIndex : MethodName := ⟨RJ4, "checkIndex", "(IILjava/util/function/BiFunction;)I"⟩
def dkwJ4_checkIndex_0 : List UInt8 := [26, 155, 0, 8, 26, 27, 161, 0, 10, 44, 26, 27, 184, 0, 95, 191, 26, 172]
abbrev dktJ4_checkIndex_0 : List UInt8 := dkwJ4_checkIndex_0 ++ []
theorem dksJ4_checkIndex_0 : cJ4_checkIndex.data.toList.drop 0 = dktJ4_checkIndex_0 := by decide +kernel
theorem dJ4_checkIndex_0 : decode cJ4_checkIndex 0 = .ok (.iload_n 0, 1) := dk_26 (dk_at dksJ4_checkIndex_0 0 rfl rfl)
theorem dJ4_checkIndex_1 : decode cJ4_checkIndex 1 = .ok (.ifCond .lt 8, 3) := dk_155 0 8 (dk_at dksJ4_checkIndex_0 1 rfl rfl)
theorem dJ4_checkIndex_4 : decode cJ4_checkIndex 4 = .ok (.iload_n 0, 1) := dk_26 (dk_at dksJ4_checkIndex_0 4 rfl rfl)
theorem dJ4_checkIndex_5 : decode cJ4_checkIndex 5 = .ok (.iload_n 1, 1) := dk_27 (dk_at dksJ4_checkIndex_0 5 rfl rfl)
theorem dJ4_checkIndex_6 : decode cJ4_checkIndex 6 = .ok (.if_icmp .lt 10, 3) := dk_161 0 10 (dk_at dksJ4_checkIndex_0 6 rfl rfl)
theorem dJ4_checkIndex_9 : decode cJ4_checkIndex 9 = .ok (.aload_n 2, 1) := dk_44 (dk_at dksJ4_checkIndex_0 9 rfl rfl)
theorem dJ4_checkIndex_10 : decode cJ4_checkIndex 10 = .ok (.iload_n 0, 1) := dk_26 (dk_at dksJ4_checkIndex_0 10 rfl rfl)
theorem dJ4_checkIndex_11 : decode cJ4_checkIndex 11 = .ok (.iload_n 1, 1) := dk_27 (dk_at dksJ4_checkIndex_0 11 rfl rfl)
theorem dJ4_checkIndex_12 : decode cJ4_checkIndex 12 = .ok (.invokestatic 95, 3) := dk_184 0 95 (dk_at dksJ4_checkIndex_0 12 rfl rfl)
theorem dJ4_checkIndex_15 : decode cJ4_checkIndex 15 = .ok (.athrow, 1) := dk_191 (dk_at dksJ4_checkIndex_0 15 rfl rfl)
theorem dJ4_checkIndex_16 : decode cJ4_checkIndex 16 = .ok (.iload_n 0, 1) := dk_26 (dk_at dksJ4_checkIndex_0 16 rfl rfl)
theorem dJ4_checkIndex_17 : decode cJ4_checkIndex 17 = .ok (.ireturn, 1) := dk_172 (dk_at dksJ4_checkIndex_0 17 rfl rfl)
abbrev cJ4_checkFromToIndex : ByteArray := prog_61_method_12_code
def yJ4_checkFromToIndex : MethodName := ⟨RJ4, "checkFromToIndex", "(IIILjava/util/function/BiFunction;)I"⟩
def dkwJ4_checkFromToIndex_0 : List UInt8 := [26, 155, 0, 13, 26, 27, 163, 0, 8, 27, 28, 164, 0, 11, 45, 26, 27, 28, 184, 0, 99, 191, 26, 172]
abbrev dktJ4_checkFromToIndex_0 : List UInt8 := dkwJ4_checkFromToIndex_0 ++ []
theorem dksJ4_checkFromToIndex_0 : cJ4_checkFromToIndex.data.toList.drop 0 = dktJ4_checkFromToIndex_0 := by decide +kernel
theorem dJ4_checkFromToIndex_0 : decode cJ4_checkFromToIndex 0 = .ok (.iload_n 0, 1) := dk_26 (dk_at dksJ4_checkFromToIndex_0 0 rfl rfl)
theorem dJ4_checkFromToIndex_1 : decode cJ4_checkFromToIndex 1 = .ok (.ifCond .lt 13, 3) := dk_155 0 13 (dk_at dksJ4_checkFromToIndex_0 1 rfl rfl)
theorem dJ4_checkFromToIndex_4 : decode cJ4_checkFromToIndex 4 = .ok (.iload_n 0, 1) := dk_26 (dk_at dksJ4_checkFromToIndex_0 4 rfl rfl)
theorem dJ4_checkFromToIndex_5 : decode cJ4_checkFromToIndex 5 = .ok (.iload_n 1, 1) := dk_27 (dk_at dksJ4_checkFromToIndex_0 5 rfl rfl)
theorem dJ4_checkFromToIndex_6 : decode cJ4_checkFromToIndex 6 = .ok (.if_icmp .gt 8, 3) := dk_163 0 8 (dk_at dksJ4_checkFromToIndex_0 6 rfl rfl)
theorem dJ4_checkFromToIndex_9 : decode cJ4_checkFromToIndex 9 = .ok (.iload_n 1, 1) := dk_27 (dk_at dksJ4_checkFromToIndex_0 9 rfl rfl)
theorem dJ4_checkFromToIndex_10 : decode cJ4_checkFromToIndex 10 = .ok (.iload_n 2, 1) := dk_28 (dk_at dksJ4_checkFromToIndex_0 10 rfl rfl)
theorem dJ4_checkFromToIndex_11 : decode cJ4_checkFromToIndex 11 = .ok (.if_icmp .le 11, 3) := dk_164 0 11 (dk_at dksJ4_checkFromToIndex_0 11 rfl rfl)
theorem dJ4_checkFromToIndex_14 : decode cJ4_checkFromToIndex 14 = .ok (.aload_n 3, 1) := dk_45 (dk_at dksJ4_checkFromToIndex_0 14 rfl rfl)
theorem dJ4_checkFromToIndex_15 : decode cJ4_checkFromToIndex 15 = .ok (.iload_n 0, 1) := dk_26 (dk_at dksJ4_checkFromToIndex_0 15 rfl rfl)
theorem dJ4_checkFromToIndex_16 : decode cJ4_checkFromToIndex 16 = .ok (.iload_n 1, 1) := dk_27 (dk_at dksJ4_checkFromToIndex_0 16 rfl rfl)
theorem dJ4_checkFromToIndex_17 : decode cJ4_checkFromToIndex 17 = .ok (.iload_n 2, 1) := dk_28 (dk_at dksJ4_checkFromToIndex_0 17 rfl rfl)
theorem dJ4_checkFromToIndex_18 : decode cJ4_checkFromToIndex 18 = .ok (.invokestatic 99, 3) := dk_184 0 99 (dk_at dksJ4_checkFromToIndex_0 18 rfl rfl)
theorem dJ4_checkFromToIndex_21 : decode cJ4_checkFromToIndex 21 = .ok (.athrow, 1) := dk_191 (dk_at dksJ4_checkFromToIndex_0 21 rfl rfl)
theorem dJ4_checkFromToIndex_22 : decode cJ4_checkFromToIndex 22 = .ok (.iload_n 0, 1) := dk_26 (dk_at dksJ4_checkFromToIndex_0 22 rfl rfl)
theorem dJ4_checkFromToIndex_23 : decode cJ4_checkFromToIndex 23 = .ok (.ireturn, 1) := dk_172 (dk_at dksJ4_checkFromToIndex_0 23 rfl rfl)
theorem q104 : (Jvm.Cond.initialized "jdk/internal/util/Preconditions") ∈ lw_all := lw_g (lw_at lw_m1 12 rfl) rfl
theorem q435 : (Jvm.Cond.static ({ cls := "jdk/internal/util/Preconditions", name := "checkIndex", desc := "(IILjava/util/function/BiFunction;)I" } : Jvm.MethodName)) ∈ lw_all := lw_g (lw_at lw_m2 103 rfl) rfl
theorem q436 : (Jvm.Cond.code ({ cls := "jdk/internal/util/Preconditions", name := "checkIndex", desc := "(IILjava/util/function/BiFunction;)I" } : Jvm.MethodName) prog_61_method_11_code (3 : Nat) (Option.some Jvm.ClassFile.FieldType.int)) ∈ lw_all := lw_g (lw_at lw_m2 104 rfl) rfl
theorem q586 : (Jvm.Cond.laysStatic "jdk/internal/util/Preconditions" "SIOOBE_FORMATTER" "Ljava/util/function/BiFunction;") ∈ lw_tbl := lw_at lw_m3 14 rfl
theorem q588 : (Jvm.Cond.static ({ cls := "jdk/internal/util/Preconditions", name := "checkFromToIndex", desc := "(IIILjava/util/function/BiFunction;)I" } : Jvm.MethodName)) ∈ lw_all := lw_g (lw_at lw_m3 16 rfl) rfl
theorem q589 : (Jvm.Cond.code ({ cls := "jdk/internal/util/Preconditions", name := "checkFromToIndex", desc := "(IIILjava/util/function/BiFunction;)I" } : Jvm.MethodName) prog_61_method_12_code (4 : Nat) (Option.some Jvm.ClassFile.FieldType.int)) ∈ lw_all := lw_g (lw_at lw_m3 17 rfl) rfl

/-! java/lang/String -/
set_option maxRecDepth 100000
def RJ5 : String := "java/lang/String"
abbrev cJ5_indexOf : ByteArray := prog_43_method_79_code
def yJ5_indexOf : MethodName := ⟨RJ5, "indexOf", "(I)I"⟩
def dkwJ5_indexOf_0 : List UInt8 := [42, 27, 3, 182, 2, 121, 172]
abbrev dktJ5_indexOf_0 : List UInt8 := dkwJ5_indexOf_0 ++ []
theorem dksJ5_indexOf_0 : cJ5_indexOf.data.toList.drop 0 = dktJ5_indexOf_0 := by decide +kernel
theorem dJ5_indexOf_0 : decode cJ5_indexOf 0 = .ok (.aload_n 0, 1) := dk_42 (dk_at dksJ5_indexOf_0 0 rfl rfl)
theorem dJ5_indexOf_1 : decode cJ5_indexOf 1 = .ok (.iload_n 1, 1) := dk_27 (dk_at dksJ5_indexOf_0 1 rfl rfl)
theorem dJ5_indexOf_2 : decode cJ5_indexOf 2 = .ok (.iconst 0, 1) := dk_3 (dk_at dksJ5_indexOf_0 2 rfl rfl)
theorem dJ5_indexOf_3 : decode cJ5_indexOf 3 = .ok (.invokevirtual 633, 3) := dk_182 2 121 (dk_at dksJ5_indexOf_0 3 rfl rfl)
theorem dJ5_indexOf_6 : decode cJ5_indexOf 6 = .ok (.ireturn, 1) := dk_172 (dk_at dksJ5_indexOf_0 6 rfl rfl)
abbrev cJ5_indexOf_2 : ByteArray := prog_43_method_80_code
def yJ5_indexOf_2 : MethodName := ⟨RJ5, "indexOf", "(II)I"⟩
def dkwJ5_indexOf_2_1 : List UInt8 := [180, 0, 9, 27, 28, 42, 182, 1, 249, 184, 2, 128, 172]
abbrev dktJ5_indexOf_2_1 : List UInt8 := dkwJ5_indexOf_2_1 ++ []
def dkwJ5_indexOf_2_0 : List UInt8 := [42, 182, 1, 236, 153, 0, 19, 42, 180, 0, 9, 27, 28, 42, 182, 1, 249, 184, 2, 125, 167, 0, 16, 42]
abbrev dktJ5_indexOf_2_0 : List UInt8 := dkwJ5_indexOf_2_0 ++ dktJ5_indexOf_2_1
theorem dksJ5_indexOf_2_0 : cJ5_indexOf_2.data.toList.drop 0 = dktJ5_indexOf_2_0 := by decide +kernel
theorem dksJ5_indexOf_2_1 : cJ5_indexOf_2.data.toList.drop 24 = dktJ5_indexOf_2_1 := dk_seg dksJ5_indexOf_2_0 24 rfl rfl
theorem dJ5_indexOf_2_0 : decode cJ5_indexOf_2 0 = .ok (.aload_n 0, 1) := dk_42 (dk_at dksJ5_indexOf_2_0 0 rfl rfl)
theorem dJ5_indexOf_2_1 : decode cJ5_indexOf_2 1 = .ok (.invokevirtual 492, 3) := dk_182 1 236 (dk_at dksJ5_indexOf_2_0 1 rfl rfl)
theorem dJ5_indexOf_2_4 : decode cJ5_indexOf_2 4 = .ok (.ifCond .eq 19, 3) := dk_153 0 19 (dk_at dksJ5_indexOf_2_0 4 rfl rfl)
theorem dJ5_indexOf_2_7 : decode cJ5_indexOf_2 7 = .ok (.aload_n 0, 1) := dk_42 (dk_at dksJ5_indexOf_2_0 7 rfl rfl)
theorem dJ5_indexOf_2_8 : decode cJ5_indexOf_2 8 = .ok (.getfield 9, 3) := dk_180 0 9 (dk_at dksJ5_indexOf_2_0 8 rfl rfl)
theorem dJ5_indexOf_2_11 : decode cJ5_indexOf_2 11 = .ok (.iload_n 1, 1) := dk_27 (dk_at dksJ5_indexOf_2_0 11 rfl rfl)
theorem dJ5_indexOf_2_12 : decode cJ5_indexOf_2 12 = .ok (.iload_n 2, 1) := dk_28 (dk_at dksJ5_indexOf_2_0 12 rfl rfl)
theorem dJ5_indexOf_2_13 : decode cJ5_indexOf_2 13 = .ok (.aload_n 0, 1) := dk_42 (dk_at dksJ5_indexOf_2_0 13 rfl rfl)
theorem dJ5_indexOf_2_14 : decode cJ5_indexOf_2 14 = .ok (.invokevirtual 505, 3) := dk_182 1 249 (dk_at dksJ5_indexOf_2_0 14 rfl rfl)
theorem dJ5_indexOf_2_17 : decode cJ5_indexOf_2 17 = .ok (.invokestatic 637, 3) := dk_184 2 125 (dk_at dksJ5_indexOf_2_0 17 rfl rfl)
theorem dJ5_indexOf_2_20 : decode cJ5_indexOf_2 20 = .ok (.goto 16, 3) := dk_167 0 16 (dk_at dksJ5_indexOf_2_0 20 rfl rfl)
theorem dJ5_indexOf_2_23 : decode cJ5_indexOf_2 23 = .ok (.aload_n 0, 1) := dk_42 (dk_at dksJ5_indexOf_2_0 23 rfl rfl)
theorem dJ5_indexOf_2_24 : decode cJ5_indexOf_2 24 = .ok (.getfield 9, 3) := dk_180 0 9 (dk_at dksJ5_indexOf_2_1 0 rfl rfl)
theorem dJ5_indexOf_2_27 : decode cJ5_indexOf_2 27 = .ok (.iload_n 1, 1) := dk_27 (dk_at dksJ5_indexOf_2_1 3 rfl rfl)
theorem dJ5_indexOf_2_28 : decode cJ5_indexOf_2 28 = .ok (.iload_n 2, 1) := dk_28 (dk_at dksJ5_indexOf_2_1 4 rfl rfl)
theorem dJ5_indexOf_2_29 : decode cJ5_indexOf_2 29 = .ok (.aload_n 0, 1) := dk_42 (dk_at dksJ5_indexOf_2_1 5 rfl rfl)
theorem dJ5_indexOf_2_30 : decode cJ5_indexOf_2 30 = .ok (.invokevirtual 505, 3) := dk_182 1 249 (dk_at dksJ5_indexOf_2_1 6 rfl rfl)
theorem dJ5_indexOf_2_33 : decode cJ5_indexOf_2 33 = .ok (.invokestatic 640, 3) := dk_184 2 128 (dk_at dksJ5_indexOf_2_1 9 rfl rfl)
theorem dJ5_indexOf_2_36 : decode cJ5_indexOf_2 36 = .ok (.ireturn, 1) := dk_172 (dk_at dksJ5_indexOf_2_1 12 rfl rfl)
abbrev cJ5_isLatin1 : ByteArray := prog_43_method_154_code
def yJ5_isLatin1 : MethodName := ⟨RJ5, "isLatin1", "()Z"⟩
def dkwJ5_isLatin1_0 : List UInt8 := [178, 0, 38, 153, 0, 14, 42, 180, 0, 15, 154, 0, 7, 4, 167, 0, 4, 3, 172]
abbrev dktJ5_isLatin1_0 : List UInt8 := dkwJ5_isLatin1_0 ++ []
theorem dksJ5_isLatin1_0 : cJ5_isLatin1.data.toList.drop 0 = dktJ5_isLatin1_0 := by decide +kernel
theorem dJ5_isLatin1_0 : decode cJ5_isLatin1 0 = .ok (.getstatic 38, 3) := dk_178 0 38 (dk_at dksJ5_isLatin1_0 0 rfl rfl)
theorem dJ5_isLatin1_3 : decode cJ5_isLatin1 3 = .ok (.ifCond .eq 14, 3) := dk_153 0 14 (dk_at dksJ5_isLatin1_0 3 rfl rfl)
theorem dJ5_isLatin1_6 : decode cJ5_isLatin1 6 = .ok (.aload_n 0, 1) := dk_42 (dk_at dksJ5_isLatin1_0 6 rfl rfl)
theorem dJ5_isLatin1_7 : decode cJ5_isLatin1 7 = .ok (.getfield 15, 3) := dk_180 0 15 (dk_at dksJ5_isLatin1_0 7 rfl rfl)
theorem dJ5_isLatin1_10 : decode cJ5_isLatin1 10 = .ok (.ifCond .ne 7, 3) := dk_154 0 7 (dk_at dksJ5_isLatin1_0 10 rfl rfl)
theorem dJ5_isLatin1_13 : decode cJ5_isLatin1 13 = .ok (.iconst 1, 1) := dk_4 (dk_at dksJ5_isLatin1_0 13 rfl rfl)
theorem dJ5_isLatin1_14 : decode cJ5_isLatin1 14 = .ok (.goto 4, 3) := dk_167 0 4 (dk_at dksJ5_isLatin1_0 14 rfl rfl)
theorem dJ5_isLatin1_17 : decode cJ5_isLatin1 17 = .ok (.iconst 0, 1) := dk_3 (dk_at dksJ5_isLatin1_0 17 rfl rfl)
theorem dJ5_isLatin1_18 : decode cJ5_isLatin1 18 = .ok (.ireturn, 1) := dk_172 (dk_at dksJ5_isLatin1_0 18 rfl rfl)
abbrev cJ5_length : ByteArray := prog_43_method_54_code
def yJ5_length : MethodName := ⟨RJ5, "length", "()I"⟩
def dkwJ5_length_0 : List UInt8 := [42, 180, 0, 9, 190, 42, 182, 1, 79, 122, 172]
abbrev dktJ5_length_0 : List UInt8 := dkwJ5_length_0 ++ []
theorem dksJ5_length_0 : cJ5_length.data.toList.drop 0 = dktJ5_length_0 := by decide +kernel
theorem dJ5_length_0 : decode cJ5_length 0 = .ok (.aload_n 0, 1) := dk_42 (dk_at dksJ5_length_0 0 rfl rfl)
theorem dJ5_length_1 : decode cJ5_length 1 = .ok (.getfield 9, 3) := dk_180 0 9 (dk_at dksJ5_length_0 1 rfl rfl)
theorem dJ5_length_4 : decode cJ5_length 4 = .ok (.arraylength, 1) := dk_190 (dk_at dksJ5_length_0 4 rfl rfl)
theorem dJ5_length_5 : decode cJ5_length 5 = .ok (.aload_n 0, 1) := dk_42 (dk_at dksJ5_length_0 5 rfl rfl)
theorem dJ5_length_6 : decode cJ5_length 6 = .ok (.invokevirtual 335, 3) := dk_182 1 79 (dk_at dksJ5_length_0 6 rfl rfl)
theorem dJ5_length_9 : decode cJ5_length 9 = .ok (.ishr, 1) := dk_122 (dk_at dksJ5_length_0 9 rfl rfl)
theorem dJ5_length_10 : decode cJ5_length 10 = .ok (.ireturn, 1) := dk_172 (dk_at dksJ5_length_0 10 rfl rfl)
abbrev cJ5_coder : ByteArray := prog_43_method_152_code
def yJ5_coder : MethodName := ⟨RJ5, "coder", "()B"⟩
def dkwJ5_coder_0 : List UInt8 := [178, 0, 38, 153, 0, 10, 42, 180, 0, 15, 167, 0, 4, 4, 172]
abbrev dktJ5_coder_0 : List UInt8 := dkwJ5_coder_0 ++ []
theorem dksJ5_coder_0 : cJ5_coder.data.toList.drop 0 = dktJ5_coder_0 := by decide +kernel
theorem dJ5_coder_0 : decode cJ5_coder 0 = .ok (.getstatic 38, 3) := dk_178 0 38 (dk_at dksJ5_coder_0 0 rfl rfl)
theorem dJ5_coder_3 : decode cJ5_coder 3 = .ok (.ifCond .eq 10, 3) := dk_153 0 10 (dk_at dksJ5_coder_0 3 rfl rfl)
theorem dJ5_coder_6 : decode cJ5_coder 6 = .ok (.aload_n 0, 1) := dk_42 (dk_at dksJ5_coder_0 6 rfl rfl)
theorem dJ5_coder_7 : decode cJ5_coder 7 = .ok (.getfield 15, 3) := dk_180 0 15 (dk_at dksJ5_coder_0 7 rfl rfl)
theorem dJ5_coder_10 : decode cJ5_coder 10 = .ok (.goto 4, 3) := dk_167 0 4 (dk_at dksJ5_coder_0 10 rfl rfl)
theorem dJ5_coder_13 : decode cJ5_coder 13 = .ok (.iconst 1, 1) := dk_4 (dk_at dksJ5_coder_0 13 rfl rfl)
theorem dJ5_coder_14 : decode cJ5_coder 14 = .ok (.ireturn, 1) := dk_172 (dk_at dksJ5_coder_0 14 rfl rfl)
abbrev cJ5_checkBoundsBeginEnd : ByteArray := prog_43_method_158_code
def yJ5_checkBoundsBeginEnd : MethodName := ⟨RJ5, "checkBoundsBeginEnd", "(III)V"⟩
def dkwJ5_checkBoundsBeginEnd_0 : List UInt8 := [26, 27, 28, 178, 4, 29, 184, 4, 38, 87, 177]
abbrev dktJ5_checkBoundsBeginEnd_0 : List UInt8 := dkwJ5_checkBoundsBeginEnd_0 ++ []
theorem dksJ5_checkBoundsBeginEnd_0 : cJ5_checkBoundsBeginEnd.data.toList.drop 0 = dktJ5_checkBoundsBeginEnd_0 := by decide +kernel
theorem dJ5_checkBoundsBeginEnd_0 : decode cJ5_checkBoundsBeginEnd 0 = .ok (.iload_n 0, 1) := dk_26 (dk_at dksJ5_checkBoundsBeginEnd_0 0 rfl rfl)
theorem dJ5_checkBoundsBeginEnd_1 : decode cJ5_checkBoundsBeginEnd 1 = .ok (.iload_n 1, 1) := dk_27 (dk_at dksJ5_checkBoundsBeginEnd_0 1 rfl rfl)
theorem dJ5_checkBoundsBeginEnd_2 : decode cJ5_checkBoundsBeginEnd 2 = .ok (.iload_n 2, 1) := dk_28 (dk_at dksJ5_checkBoundsBeginEnd_0 2 rfl rfl)
theorem dJ5_checkBoundsBeginEnd_3 : decode cJ5_checkBoundsBeginEnd 3 = .ok (.getstatic 1053, 3) := dk_178 4 29 (dk_at dksJ5_checkBoundsBeginEnd_0 3 rfl rfl)
theorem dJ5_checkBoundsBeginEnd_6 : decode cJ5_checkBoundsBeginEnd 6 = .ok (.invokestatic 1062, 3) := dk_184 4 38 (dk_at dksJ5_checkBoundsBeginEnd_0 6 rfl rfl)
theorem dJ5_checkBoundsBeginEnd_9 : decode cJ5_checkBoundsBeginEnd 9 = .ok (.pop, 1) := dk_87 (dk_at dksJ5_checkBoundsBeginEnd_0 9 rfl rfl)
theorem dJ5_checkBoundsBeginEnd_10 : decode cJ5_checkBoundsBeginEnd 10 = .ok (.return_, 1) := dk_177 (dk_at dksJ5_checkBoundsBeginEnd_0 10 rfl rfl)
abbrev cJ5_charAt : ByteArray := prog_43_method_56_code
def yJ5_charAt : MethodName := ⟨RJ5, "charAt", "(I)C"⟩
def dkwJ5_charAt_1 : List UInt8 := [172]
abbrev dktJ5_charAt_1 : List UInt8 := dkwJ5_charAt_1 ++ []
def dkwJ5_charAt_0 : List UInt8 := [42, 182, 1, 236, 153, 0, 12, 42, 180, 0, 9, 27, 184, 1, 239, 172, 42, 180, 0, 9, 27, 184, 1, 242]
abbrev dktJ5_charAt_0 : List UInt8 := dkwJ5_charAt_0 ++ dktJ5_charAt_1
theorem dksJ5_charAt_0 : cJ5_charAt.data.toList.drop 0 = dktJ5_charAt_0 := by decide +kernel
theorem dksJ5_charAt_1 : cJ5_charAt.data.toList.drop 24 = dktJ5_charAt_1 := dk_seg dksJ5_charAt_0 24 rfl rfl
theorem dJ5_charAt_0 : decode cJ5_charAt 0 = .ok (.aload_n 0, 1) := dk_42 (dk_at dksJ5_charAt_0 0 rfl rfl)
theorem dJ5_charAt_1 : decode cJ5_charAt 1 = .ok (.invokevirtual 492, 3) := dk_182 1 236 (dk_at dksJ5_charAt_0 1 rfl rfl)
theorem dJ5_charAt_4 : decode cJ5_charAt 4 = .ok (.ifCond .eq 12, 3) := dk_153 0 12 (dk_at dksJ5_charAt_0 4 rfl rfl)
theorem dJ5_charAt_7 : decode cJ5_charAt 7 = .ok (.aload_n 0, 1) := dk_42 (dk_at dksJ5_charAt_0 7 rfl rfl)
theorem dJ5_charAt_8 : decode cJ5_charAt 8 = .ok (.getfield 9, 3) := dk_180 0 9 (dk_at dksJ5_charAt_0 8 rfl rfl)
theorem dJ5_charAt_11 : decode cJ5_charAt 11 = .ok (.iload_n 1, 1) := dk_27 (dk_at dksJ5_charAt_0 11 rfl rfl)
theorem dJ5_charAt_12 : decode cJ5_charAt 12 = .ok (.invokestatic 495, 3) := dk_184 1 239 (dk_at dksJ5_charAt_0 12 rfl rfl)
theorem dJ5_charAt_15 : decode cJ5_charAt 15 = .ok (.ireturn, 1) := dk_172 (dk_at dksJ5_charAt_0 15 rfl rfl)
theorem dJ5_charAt_16 : decode cJ5_charAt 16 = .ok (.aload_n 0, 1) := dk_42 (dk_at dksJ5_charAt_0 16 rfl rfl)
theorem dJ5_charAt_17 : decode cJ5_charAt 17 = .ok (.getfield 9, 3) := dk_180 0 9 (dk_at dksJ5_charAt_0 17 rfl rfl)
theorem dJ5_charAt_20 : decode cJ5_charAt 20 = .ok (.iload_n 1, 1) := dk_27 (dk_at dksJ5_charAt_0 20 rfl rfl)
theorem dJ5_charAt_21 : decode cJ5_charAt 21 = .ok (.invokestatic 498, 3) := dk_184 1 242 (dk_at dksJ5_charAt_0 21 rfl rfl)
theorem dJ5_charAt_24 : decode cJ5_charAt 24 = .ok (.ireturn, 1) := dk_172 (dk_at dksJ5_charAt_1 0 rfl rfl)
abbrev cJ5_checkIndex : ByteArray := prog_43_method_155_code
def yJ5_checkIndex : MethodName := ⟨RJ5, "checkIndex", "(II)V"⟩
def dkwJ5_checkIndex_0 : List UInt8 := [26, 27, 178, 4, 29, 184, 4, 35, 87, 177]
abbrev dktJ5_checkIndex_0 : List UInt8 := dkwJ5_checkIndex_0 ++ []
theorem dksJ5_checkIndex_0 : cJ5_checkIndex.data.toList.drop 0 = dktJ5_checkIndex_0 := by decide +kernel
theorem dJ5_checkIndex_0 : decode cJ5_checkIndex 0 = .ok (.iload_n 0, 1) := dk_26 (dk_at dksJ5_checkIndex_0 0 rfl rfl)
theorem dJ5_checkIndex_1 : decode cJ5_checkIndex 1 = .ok (.iload_n 1, 1) := dk_27 (dk_at dksJ5_checkIndex_0 1 rfl rfl)
theorem dJ5_checkIndex_2 : decode cJ5_checkIndex 2 = .ok (.getstatic 1053, 3) := dk_178 4 29 (dk_at dksJ5_checkIndex_0 2 rfl rfl)
theorem dJ5_checkIndex_5 : decode cJ5_checkIndex 5 = .ok (.invokestatic 1059, 3) := dk_184 4 35 (dk_at dksJ5_checkIndex_0 5 rfl rfl)
theorem dJ5_checkIndex_8 : decode cJ5_checkIndex 8 = .ok (.pop, 1) := dk_87 (dk_at dksJ5_checkIndex_0 8 rfl rfl)
theorem dJ5_checkIndex_9 : decode cJ5_checkIndex 9 = .ok (.return_, 1) := dk_177 (dk_at dksJ5_checkIndex_0 9 rfl rfl)
theorem q106 : (Jvm.Cond.initialized "java/lang/String") ∈ lw_all := lw_g (lw_at lw_m1 14 rfl) rfl
theorem q531 : (Jvm.Cond.instanceMethod ({ cls := "java/lang/String", name := "indexOf", desc := "(I)I" } : Jvm.MethodName)) ∈ lw_all := lw_g (lw_at lw_m2 199 rfl) rfl
theorem q532 : (Jvm.Cond.selects "java/lang/String" ({ cls := "java/lang/String", name := "indexOf", desc := "(I)I" } : Jvm.MethodName) ({ cls := "java/lang/String", name := "indexOf", desc := "(I)I" } : Jvm.MethodName)) ∈ lw_all := lw_g (lw_at lw_m2 200 rfl) rfl
theorem q533 : (Jvm.Cond.code ({ cls := "java/lang/String", name := "indexOf", desc := "(I)I" } : Jvm.MethodName) prog_43_method_79_code (2 : Nat) (Option.some Jvm.ClassFile.FieldType.int)) ∈ lw_all := lw_g (lw_at lw_m2 201 rfl) rfl
theorem q534 : (Jvm.Cond.methodLink "java/lang/String" (633 : Nat) ({ cls := "java/lang/String", name := "indexOf", desc := "(II)I" } : Jvm.MethodName)) ∈ lw_all := lw_g (lw_at lw_m2 202 rfl) rfl
theorem q535 : (Jvm.Cond.instanceMethod ({ cls := "java/lang/String", name := "indexOf", desc := "(II)I" } : Jvm.MethodName)) ∈ lw_all := lw_g (lw_at lw_m2 203 rfl) rfl
theorem q536 : (Jvm.Cond.selects "java/lang/String" ({ cls := "java/lang/String", name := "indexOf", desc := "(II)I" } : Jvm.MethodName) ({ cls := "java/lang/String", name := "indexOf", desc := "(II)I" } : Jvm.MethodName)) ∈ lw_all := lw_g (lw_at lw_m2 204 rfl) rfl
theorem q537 : (Jvm.Cond.code ({ cls := "java/lang/String", name := "indexOf", desc := "(II)I" } : Jvm.MethodName) prog_43_method_80_code (3 : Nat) (Option.some Jvm.ClassFile.FieldType.int)) ∈ lw_all := lw_g (lw_at lw_m2 205 rfl) rfl
theorem q538 : (Jvm.Cond.methodLink "java/lang/String" (492 : Nat) ({ cls := "java/lang/String", name := "isLatin1", desc := "()Z" } : Jvm.MethodName)) ∈ lw_all := lw_g (lw_at lw_m2 206 rfl) rfl
theorem q539 : (Jvm.Cond.instanceMethod ({ cls := "java/lang/String", name := "isLatin1", desc := "()Z" } : Jvm.MethodName)) ∈ lw_all := lw_g (lw_at lw_m2 207 rfl) rfl
theorem q540 : (Jvm.Cond.selects "java/lang/String" ({ cls := "java/lang/String", name := "isLatin1", desc := "()Z" } : Jvm.MethodName) ({ cls := "java/lang/String", name := "isLatin1", desc := "()Z" } : Jvm.MethodName)) ∈ lw_all := lw_g (lw_at lw_m2 208 rfl) rfl
theorem q541 : (Jvm.Cond.code ({ cls := "java/lang/String", name := "isLatin1", desc := "()Z" } : Jvm.MethodName) prog_43_method_154_code (1 : Nat) (Option.some Jvm.ClassFile.FieldType.boolean)) ∈ lw_all := lw_g (lw_at lw_m2 209 rfl) rfl
theorem q542 : (Jvm.Cond.fieldLink "java/lang/String" (38 : Nat) "java/lang/String" "COMPACT_STRINGS" "Z") ∈ lw_all := lw_g (lw_at lw_m2 210 rfl) rfl
theorem q543 : (Jvm.Cond.laysStatic "java/lang/String" "COMPACT_STRINGS" "Z") ∈ lw_tbl := lw_at lw_m2 211 rfl
theorem q544 : (Jvm.Cond.methodLink "java/lang/String" (505 : Nat) ({ cls := "java/lang/String", name := "length", desc := "()I" } : Jvm.MethodName)) ∈ lw_all := lw_g (lw_at lw_m2 212 rfl) rfl
theorem q545 : (Jvm.Cond.instanceMethod ({ cls := "java/lang/String", name := "length", desc := "()I" } : Jvm.MethodName)) ∈ lw_all := lw_g (lw_at lw_m2 213 rfl) rfl
theorem q546 : (Jvm.Cond.selects "java/lang/String" ({ cls := "java/lang/String", name := "length", desc := "()I" } : Jvm.MethodName) ({ cls := "java/lang/String", name := "length", desc := "()I" } : Jvm.MethodName)) ∈ lw_all := lw_g (lw_at lw_m2 214 rfl) rfl
theorem q547 : (Jvm.Cond.code ({ cls := "java/lang/String", name := "length", desc := "()I" } : Jvm.MethodName) prog_43_method_54_code (1 : Nat) (Option.some Jvm.ClassFile.FieldType.int)) ∈ lw_all := lw_g (lw_at lw_m2 215 rfl) rfl
theorem q548 : (Jvm.Cond.methodLink "java/lang/String" (335 : Nat) ({ cls := "java/lang/String", name := "coder", desc := "()B" } : Jvm.MethodName)) ∈ lw_all := lw_g (lw_at lw_m2 216 rfl) rfl
theorem q549 : (Jvm.Cond.instanceMethod ({ cls := "java/lang/String", name := "coder", desc := "()B" } : Jvm.MethodName)) ∈ lw_all := lw_g (lw_at lw_m2 217 rfl) rfl
theorem q550 : (Jvm.Cond.selects "java/lang/String" ({ cls := "java/lang/String", name := "coder", desc := "()B" } : Jvm.MethodName) ({ cls := "java/lang/String", name := "coder", desc := "()B" } : Jvm.MethodName)) ∈ lw_all := lw_g (lw_at lw_m2 218 rfl) rfl
theorem q551 : (Jvm.Cond.code ({ cls := "java/lang/String", name := "coder", desc := "()B" } : Jvm.MethodName) prog_43_method_152_code (1 : Nat) (Option.some Jvm.ClassFile.FieldType.byte)) ∈ lw_all := lw_g (lw_at lw_m2 219 rfl) rfl
theorem q552 : (Jvm.Cond.methodLink "java/lang/String" (637 : Nat) ({ cls := "java/lang/StringLatin1", name := "indexOf", desc := "([BIII)I" } : Jvm.MethodName)) ∈ lw_all := lw_g (lw_at lw_m2 220 rfl) rfl
theorem q567 : (Jvm.Cond.methodLink "java/lang/String" (640 : Nat) ({ cls := "java/lang/StringUTF16", name := "indexOf", desc := "([BIII)I" } : Jvm.MethodName)) ∈ lw_all := lw_g (lw_at lw_m2 235 rfl) rfl
theorem q583 : (Jvm.Cond.static ({ cls := "java/lang/String", name := "checkBoundsBeginEnd", desc := "(III)V" } : Jvm.MethodName)) ∈ lw_all := lw_g (lw_at lw_m3 11 rfl) rfl
theorem q584 : (Jvm.Cond.code ({ cls := "java/lang/String", name := "checkBoundsBeginEnd", desc := "(III)V" } : Jvm.MethodName) prog_43_method_158_code (3 : Nat) (Option.none : Option Jvm.ClassFile.FieldType)) ∈ lw_all := lw_g (lw_at lw_m3 12 rfl) rfl
theorem q585 : (Jvm.Cond.fieldLink "java/lang/String" (1053 : Nat) "jdk/internal/util/Preconditions" "SIOOBE_FORMATTER" "Ljava/util/function/BiFunction;") ∈ lw_all := lw_g (lw_at lw_m3 13 rfl) rfl
theorem q587 : (Jvm.Cond.methodLink "java/lang/String" (1062 : Nat) ({ cls := "jdk/internal/util/Preconditions", name := "checkFromToIndex", desc := "(IIILjava/util/function/BiFunction;)I" } : Jvm.MethodName)) ∈ lw_all := lw_g (lw_at lw_m3 15 rfl) rfl
theorem q631 : (Jvm.Cond.instanceMethod ({ cls := "java/lang/String", name := "charAt", desc := "(I)C" } : Jvm.MethodName)) ∈ lw_all := lw_g (lw_at lw_m3 59 rfl) rfl
theorem q632 : (Jvm.Cond.selects "java/lang/String" ({ cls := "java/lang/String", name := "charAt", desc := "(I)C" } : Jvm.MethodName) ({ cls := "java/lang/String", name := "charAt", desc := "(I)C" } : Jvm.MethodName)) ∈ lw_all := lw_g (lw_at lw_m3 60 rfl) rfl
theorem q633 : (Jvm.Cond.code ({ cls := "java/lang/String", name := "charAt", desc := "(I)C" } : Jvm.MethodName) prog_43_method_56_code (2 : Nat) (Option.some Jvm.ClassFile.FieldType.char)) ∈ lw_all := lw_g (lw_at lw_m3 61 rfl) rfl
theorem q634 : (Jvm.Cond.methodLink "java/lang/String" (495 : Nat) ({ cls := "java/lang/StringLatin1", name := "charAt", desc := "([BI)C" } : Jvm.MethodName)) ∈ lw_all := lw_g (lw_at lw_m3 62 rfl) rfl
theorem q638 : (Jvm.Cond.static ({ cls := "java/lang/String", name := "checkIndex", desc := "(II)V" } : Jvm.MethodName)) ∈ lw_all := lw_g (lw_at lw_m3 66 rfl) rfl
theorem q639 : (Jvm.Cond.code ({ cls := "java/lang/String", name := "checkIndex", desc := "(II)V" } : Jvm.MethodName) prog_43_method_155_code (2 : Nat) (Option.none : Option Jvm.ClassFile.FieldType)) ∈ lw_all := lw_g (lw_at lw_m3 67 rfl) rfl
theorem q640 : (Jvm.Cond.methodLink "java/lang/String" (1059 : Nat) ({ cls := "jdk/internal/util/Preconditions", name := "checkIndex", desc := "(IILjava/util/function/BiFunction;)I" } : Jvm.MethodName)) ∈ lw_all := lw_g (lw_at lw_m3 68 rfl) rfl
theorem q641 : (Jvm.Cond.methodLink "java/lang/String" (498 : Nat) ({ cls := "java/lang/StringUTF16", name := "charAt", desc := "([BI)C" } : Jvm.MethodName)) ∈ lw_all := lw_g (lw_at lw_m3 69 rfl) rfl
theorem q2061 : (Jvm.Cond.castable "java/lang/String" "java/lang/Object") ∈ lw_tbl := lw_at lw_m9 49 rfl
theorem q2104 : (Jvm.Cond.fieldLink "java/lang/String" (15 : Nat) "java/lang/String" "coder" "B") ∈ lw_all := lw_g (lw_at lw_m9 92 rfl) rfl
theorem q2105 : (Jvm.Cond.fieldLink "java/lang/String" (9 : Nat) "java/lang/String" "value" "[B") ∈ lw_all := lw_g (lw_at lw_m9 93 rfl) rfl

/-! java/lang/StringLatin1 -/
set_option maxRecDepth 100000
def RJ6 : String := "java/lang/StringLatin1"
abbrev cJ6_indexOf : ByteArray := prog_44_method_22_code
def yJ6_indexOf : MethodName := ⟨RJ6, "indexOf", "([BIII)I"⟩
def dkwJ6_indexOf_1 : List UInt8 := [161, 0, 5, 2, 172, 42, 27, 28, 29, 184, 0, 95, 172]
abbrev dktJ6_indexOf_1 : List UInt8 := dkwJ6_indexOf_1 ++ []
def dkwJ6_indexOf_0 : List UInt8 := [27, 184, 0, 88, 154, 0, 5, 2, 172, 28, 3, 184, 0, 92, 61, 29, 42, 190, 184, 0, 38, 62, 28, 29]
abbrev dktJ6_indexOf_0 : List UInt8 := dkwJ6_indexOf_0 ++ dktJ6_indexOf_1
theorem dksJ6_indexOf_0 : cJ6_indexOf.data.toList.drop 0 = dktJ6_indexOf_0 := by decide +kernel
theorem dksJ6_indexOf_1 : cJ6_indexOf.data.toList.drop 24 = dktJ6_indexOf_1 := dk_seg dksJ6_indexOf_0 24 rfl rfl
theorem dJ6_indexOf_0 : decode cJ6_indexOf 0 = .ok (.iload_n 1, 1) := dk_27 (dk_at dksJ6_indexOf_0 0 rfl rfl)
theorem dJ6_indexOf_1 : decode cJ6_indexOf 1 = .ok (.invokestatic 88, 3) := dk_184 0 88 (dk_at dksJ6_indexOf_0 1 rfl rfl)
theorem dJ6_indexOf_4 : decode cJ6_indexOf 4 = .ok (.ifCond .ne 5, 3) := dk_154 0 5 (dk_at dksJ6_indexOf_0 4 rfl rfl)
theorem dJ6_indexOf_7 : decode cJ6_indexOf 7 = .ok (.iconst (-1), 1) := dk_2 (dk_at dksJ6_indexOf_0 7 rfl rfl)
theorem dJ6_indexOf_8 : decode cJ6_indexOf 8 = .ok (.ireturn, 1) := dk_172 (dk_at dksJ6_indexOf_0 8 rfl rfl)
theorem dJ6_indexOf_9 : decode cJ6_indexOf 9 = .ok (.iload_n 2, 1) := dk_28 (dk_at dksJ6_indexOf_0 9 rfl rfl)
theorem dJ6_indexOf_10 : decode cJ6_indexOf 10 = .ok (.iconst 0, 1) := dk_3 (dk_at dksJ6_indexOf_0 10 rfl rfl)
theorem dJ6_indexOf_11 : decode cJ6_indexOf 11 = .ok (.invokestatic 92, 3) := dk_184 0 92 (dk_at dksJ6_indexOf_0 11 rfl rfl)
theorem dJ6_indexOf_14 : decode cJ6_indexOf 14 = .ok (.istore_n 2, 1) := dk_61 (dk_at dksJ6_indexOf_0 14 rfl rfl)
theorem dJ6_indexOf_15 : decode cJ6_indexOf 15 = .ok (.iload_n 3, 1) := dk_29 (dk_at dksJ6_indexOf_0 15 rfl rfl)
theorem dJ6_indexOf_16 : decode cJ6_indexOf 16 = .ok (.aload_n 0, 1) := dk_42 (dk_at dksJ6_indexOf_0 16 rfl rfl)
theorem dJ6_indexOf_17 : decode cJ6_indexOf 17 = .ok (.arraylength, 1) := dk_190 (dk_at dksJ6_indexOf_0 17 rfl rfl)
theorem dJ6_indexOf_18 : decode cJ6_indexOf 18 = .ok (.invokestatic 38, 3) := dk_184 0 38 (dk_at dksJ6_indexOf_0 18 rfl rfl)
theorem dJ6_indexOf_21 : decode cJ6_indexOf 21 = .ok (.istore_n 3, 1) := dk_62 (dk_at dksJ6_indexOf_0 21 rfl rfl)
theorem dJ6_indexOf_22 : decode cJ6_indexOf 22 = .ok (.iload_n 2, 1) := dk_28 (dk_at dksJ6_indexOf_0 22 rfl rfl)
theorem dJ6_indexOf_23 : decode cJ6_indexOf 23 = .ok (.iload_n 3, 1) := dk_29 (dk_at dksJ6_indexOf_0 23 rfl rfl)
theorem dJ6_indexOf_24 : decode cJ6_indexOf 24 = .ok (.if_icmp .lt 5, 3) := dk_161 0 5 (dk_at dksJ6_indexOf_1 0 rfl rfl)
theorem dJ6_indexOf_27 : decode cJ6_indexOf 27 = .ok (.iconst (-1), 1) := dk_2 (dk_at dksJ6_indexOf_1 3 rfl rfl)
theorem dJ6_indexOf_28 : decode cJ6_indexOf 28 = .ok (.ireturn, 1) := dk_172 (dk_at dksJ6_indexOf_1 4 rfl rfl)
theorem dJ6_indexOf_29 : decode cJ6_indexOf 29 = .ok (.aload_n 0, 1) := dk_42 (dk_at dksJ6_indexOf_1 5 rfl rfl)
theorem dJ6_indexOf_30 : decode cJ6_indexOf 30 = .ok (.iload_n 1, 1) := dk_27 (dk_at dksJ6_indexOf_1 6 rfl rfl)
theorem dJ6_indexOf_31 : decode cJ6_indexOf 31 = .ok (.iload_n 2, 1) := dk_28 (dk_at dksJ6_indexOf_1 7 rfl rfl)
theorem dJ6_indexOf_32 : decode cJ6_indexOf 32 = .ok (.iload_n 3, 1) := dk_29 (dk_at dksJ6_indexOf_1 8 rfl rfl)
theorem dJ6_indexOf_33 : decode cJ6_indexOf 33 = .ok (.invokestatic 95, 3) := dk_184 0 95 (dk_at dksJ6_indexOf_1 9 rfl rfl)
theorem dJ6_indexOf_36 : decode cJ6_indexOf 36 = .ok (.ireturn, 1) := dk_172 (dk_at dksJ6_indexOf_1 12 rfl rfl)
abbrev cJ6_canEncode : ByteArray := prog_44_method_4_code
def yJ6_canEncode : MethodName := ⟨RJ6, "canEncode", "(I)Z"⟩
def dkwJ6_canEncode_0 : List UInt8 := [26, 155, 0, 14, 26, 17, 0, 255, 163, 0, 7, 4, 167, 0, 4, 3, 172]
abbrev dktJ6_canEncode_0 : List UInt8 := dkwJ6_canEncode_0 ++ []
theorem dksJ6_canEncode_0 : cJ6_canEncode.data.toList.drop 0 = dktJ6_canEncode_0 := by decide +kernel
theorem dJ6_canEncode_0 : decode cJ6_canEncode 0 = .ok (.iload_n 0, 1) := dk_26 (dk_at dksJ6_canEncode_0 0 rfl rfl)
theorem dJ6_canEncode_1 : decode cJ6_canEncode 1 = .ok (.ifCond .lt 14, 3) := dk_155 0 14 (dk_at dksJ6_canEncode_0 1 rfl rfl)
theorem dJ6_canEncode_4 : decode cJ6_canEncode 4 = .ok (.iload_n 0, 1) := dk_26 (dk_at dksJ6_canEncode_0 4 rfl rfl)
theorem dJ6_canEncode_5 : decode cJ6_canEncode 5 = .ok (.sipush 255, 3) := dk_17 0 255 (dk_at dksJ6_canEncode_0 5 rfl rfl)
theorem dJ6_canEncode_8 : decode cJ6_canEncode 8 = .ok (.if_icmp .gt 7, 3) := dk_163 0 7 (dk_at dksJ6_canEncode_0 8 rfl rfl)
theorem dJ6_canEncode_11 : decode cJ6_canEncode 11 = .ok (.iconst 1, 1) := dk_4 (dk_at dksJ6_canEncode_0 11 rfl rfl)
theorem dJ6_canEncode_12 : decode cJ6_canEncode 12 = .ok (.goto 4, 3) := dk_167 0 4 (dk_at dksJ6_canEncode_0 12 rfl rfl)
theorem dJ6_canEncode_15 : decode cJ6_canEncode 15 = .ok (.iconst 0, 1) := dk_3 (dk_at dksJ6_canEncode_0 15 rfl rfl)
theorem dJ6_canEncode_16 : decode cJ6_canEncode 16 = .ok (.ireturn, 1) := dk_172 (dk_at dksJ6_canEncode_0 16 rfl rfl)
abbrev cJ6_indexOfChar : ByteArray := prog_44_method_23_code
def yJ6_indexOfChar : MethodName := ⟨RJ6, "indexOfChar", "([BIII)I"⟩
def dkwJ6_indexOfChar_1 : List UInt8 := [172, 132, 5, 1, 167, 255, 235, 2, 172]
abbrev dktJ6_indexOfChar_1 : List UInt8 := dkwJ6_indexOfChar_1 ++ []
def dkwJ6_indexOfChar_0 : List UInt8 := [27, 145, 54, 4, 28, 54, 5, 21, 5, 29, 162, 0, 21, 42, 21, 5, 51, 21, 4, 160, 0, 6, 21, 5]
abbrev dktJ6_indexOfChar_0 : List UInt8 := dkwJ6_indexOfChar_0 ++ dktJ6_indexOfChar_1
theorem dksJ6_indexOfChar_0 : cJ6_indexOfChar.data.toList.drop 0 = dktJ6_indexOfChar_0 := by decide +kernel
theorem dksJ6_indexOfChar_1 : cJ6_indexOfChar.data.toList.drop 24 = dktJ6_indexOfChar_1 := dk_seg dksJ6_indexOfChar_0 24 rfl rfl
theorem dJ6_indexOfChar_0 : decode cJ6_indexOfChar 0 = .ok (.iload_n 1, 1) := dk_27 (dk_at dksJ6_indexOfChar_0 0 rfl rfl)
theorem dJ6_indexOfChar_1 : decode cJ6_indexOfChar 1 = .ok (.i2b, 1) := dk_145 (dk_at dksJ6_indexOfChar_0 1 rfl rfl)
theorem dJ6_indexOfChar_2 : decode cJ6_indexOfChar 2 = .ok (.istore 4, 2) := dk_54 4 (dk_at dksJ6_indexOfChar_0 2 rfl rfl)
theorem dJ6_indexOfChar_4 : decode cJ6_indexOfChar 4 = .ok (.iload_n 2, 1) := dk_28 (dk_at dksJ6_indexOfChar_0 4 rfl rfl)
theorem dJ6_indexOfChar_5 : decode cJ6_indexOfChar 5 = .ok (.istore 5, 2) := dk_54 5 (dk_at dksJ6_indexOfChar_0 5 rfl rfl)
theorem dJ6_indexOfChar_7 : decode cJ6_indexOfChar 7 = .ok (.iload 5, 2) := dk_21 5 (dk_at dksJ6_indexOfChar_0 7 rfl rfl)
theorem dJ6_indexOfChar_9 : decode cJ6_indexOfChar 9 = .ok (.iload_n 3, 1) := dk_29 (dk_at dksJ6_indexOfChar_0 9 rfl rfl)
theorem dJ6_indexOfChar_10 : decode cJ6_indexOfChar 10 = .ok (.if_icmp .ge 21, 3) := dk_162 0 21 (dk_at dksJ6_indexOfChar_0 10 rfl rfl)
theorem dJ6_indexOfChar_13 : decode cJ6_indexOfChar 13 = .ok (.aload_n 0, 1) := dk_42 (dk_at dksJ6_indexOfChar_0 13 rfl rfl)
theorem dJ6_indexOfChar_14 : decode cJ6_indexOfChar 14 = .ok (.iload 5, 2) := dk_21 5 (dk_at dksJ6_indexOfChar_0 14 rfl rfl)
theorem dJ6_indexOfChar_16 : decode cJ6_indexOfChar 16 = .ok (.baload, 1) := dk_51 (dk_at dksJ6_indexOfChar_0 16 rfl rfl)
theorem dJ6_indexOfChar_17 : decode cJ6_indexOfChar 17 = .ok (.iload 4, 2) := dk_21 4 (dk_at dksJ6_indexOfChar_0 17 rfl rfl)
theorem dJ6_indexOfChar_19 : decode cJ6_indexOfChar 19 = .ok (.if_icmp .ne 6, 3) := dk_160 0 6 (dk_at dksJ6_indexOfChar_0 19 rfl rfl)
theorem dJ6_indexOfChar_22 : decode cJ6_indexOfChar 22 = .ok (.iload 5, 2) := dk_21 5 (dk_at dksJ6_indexOfChar_0 22 rfl rfl)
theorem dJ6_indexOfChar_24 : decode cJ6_indexOfChar 24 = .ok (.ireturn, 1) := dk_172 (dk_at dksJ6_indexOfChar_1 0 rfl rfl)
theorem dJ6_indexOfChar_25 : decode cJ6_indexOfChar 25 = .ok (.iinc 5 1, 3) := dk_132 5 1 (dk_at dksJ6_indexOfChar_1 1 rfl rfl)
theorem dJ6_indexOfChar_28 : decode cJ6_indexOfChar 28 = .ok (.goto (-21), 3) := dk_167 255 235 (dk_at dksJ6_indexOfChar_1 4 rfl rfl)
theorem dJ6_indexOfChar_31 : decode cJ6_indexOfChar 31 = .ok (.iconst (-1), 1) := dk_2 (dk_at dksJ6_indexOfChar_1 7 rfl rfl)
theorem dJ6_indexOfChar_32 : decode cJ6_indexOfChar 32 = .ok (.ireturn, 1) := dk_172 (dk_at dksJ6_indexOfChar_1 8 rfl rfl)
abbrev cJ6_charAt : ByteArray := prog_44_method_2_code
def yJ6_charAt : MethodName := ⟨RJ6, "charAt", "([BI)C"⟩
def dkwJ6_charAt_0 : List UInt8 := [27, 42, 190, 184, 0, 9, 42, 27, 51, 17, 0, 255, 126, 146, 172]
abbrev dktJ6_charAt_0 : List UInt8 := dkwJ6_charAt_0 ++ []
theorem dksJ6_charAt_0 : cJ6_charAt.data.toList.drop 0 = dktJ6_charAt_0 := by decide +kernel
theorem dJ6_charAt_0 : decode cJ6_charAt 0 = .ok (.iload_n 1, 1) := dk_27 (dk_at dksJ6_charAt_0 0 rfl rfl)
theorem dJ6_charAt_1 : decode cJ6_charAt 1 = .ok (.aload_n 0, 1) := dk_42 (dk_at dksJ6_charAt_0 1 rfl rfl)
theorem dJ6_charAt_2 : decode cJ6_charAt 2 = .ok (.arraylength, 1) := dk_190 (dk_at dksJ6_charAt_0 2 rfl rfl)
theorem dJ6_charAt_3 : decode cJ6_charAt 3 = .ok (.invokestatic 9, 3) := dk_184 0 9 (dk_at dksJ6_charAt_0 3 rfl rfl)
theorem dJ6_charAt_6 : decode cJ6_charAt 6 = .ok (.aload_n 0, 1) := dk_42 (dk_at dksJ6_charAt_0 6 rfl rfl)
theorem dJ6_charAt_7 : decode cJ6_charAt 7 = .ok (.iload_n 1, 1) := dk_27 (dk_at dksJ6_charAt_0 7 rfl rfl)
theorem dJ6_charAt_8 : decode cJ6_charAt 8 = .ok (.baload, 1) := dk_51 (dk_at dksJ6_charAt_0 8 rfl rfl)
theorem dJ6_charAt_9 : decode cJ6_charAt 9 = .ok (.sipush 255, 3) := dk_17 0 255 (dk_at dksJ6_charAt_0 9 rfl rfl)
theorem dJ6_charAt_12 : decode cJ6_charAt 12 = .ok (.iand, 1) := dk_126 (dk_at dksJ6_charAt_0 12 rfl rfl)
theorem dJ6_charAt_13 : decode cJ6_charAt 13 = .ok (.i2c, 1) := dk_146 (dk_at dksJ6_charAt_0 13 rfl rfl)
theorem dJ6_charAt_14 : decode cJ6_charAt 14 = .ok (.ireturn, 1) := dk_172 (dk_at dksJ6_charAt_0 14 rfl rfl)
theorem q107 : (Jvm.Cond.initialized "java/lang/StringLatin1") ∈ lw_all := lw_g (lw_at lw_m1 15 rfl) rfl
theorem q553 : (Jvm.Cond.static ({ cls := "java/lang/StringLatin1", name := "indexOf", desc := "([BIII)I" } : Jvm.MethodName)) ∈ lw_all := lw_g (lw_at lw_m2 221 rfl) rfl
theorem q554 : (Jvm.Cond.code ({ cls := "java/lang/StringLatin1", name := "indexOf", desc := "([BIII)I" } : Jvm.MethodName) prog_44_method_22_code (4 : Nat) (Option.some Jvm.ClassFile.FieldType.int)) ∈ lw_all := lw_g (lw_at lw_m2 222 rfl) rfl
theorem q555 : (Jvm.Cond.methodLink "java/lang/StringLatin1" (88 : Nat) ({ cls := "java/lang/StringLatin1", name := "canEncode", desc := "(I)Z" } : Jvm.MethodName)) ∈ lw_all := lw_g (lw_at lw_m2 223 rfl) rfl
theorem q556 : (Jvm.Cond.static ({ cls := "java/lang/StringLatin1", name := "canEncode", desc := "(I)Z" } : Jvm.MethodName)) ∈ lw_all := lw_g (lw_at lw_m2 224 rfl) rfl
theorem q557 : (Jvm.Cond.code ({ cls := "java/lang/StringLatin1", name := "canEncode", desc := "(I)Z" } : Jvm.MethodName) prog_44_method_4_code (1 : Nat) (Option.some Jvm.ClassFile.FieldType.boolean)) ∈ lw_all := lw_g (lw_at lw_m2 225 rfl) rfl
theorem q558 : (Jvm.Cond.methodLink "java/lang/StringLatin1" (92 : Nat) ({ cls := "java/lang/Math", name := "max", desc := "(II)I" } : Jvm.MethodName)) ∈ lw_all := lw_g (lw_at lw_m2 226 rfl) rfl
theorem q561 : (Jvm.Cond.methodLink "java/lang/StringLatin1" (38 : Nat) ({ cls := "java/lang/Math", name := "min", desc := "(II)I" } : Jvm.MethodName)) ∈ lw_all := lw_g (lw_at lw_m2 229 rfl) rfl
theorem q564 : (Jvm.Cond.methodLink "java/lang/StringLatin1" (95 : Nat) ({ cls := "java/lang/StringLatin1", name := "indexOfChar", desc := "([BIII)I" } : Jvm.MethodName)) ∈ lw_all := lw_g (lw_at lw_m2 232 rfl) rfl
theorem q565 : (Jvm.Cond.static ({ cls := "java/lang/StringLatin1", name := "indexOfChar", desc := "([BIII)I" } : Jvm.MethodName)) ∈ lw_all := lw_g (lw_at lw_m2 233 rfl) rfl
theorem q566 : (Jvm.Cond.code ({ cls := "java/lang/StringLatin1", name := "indexOfChar", desc := "([BIII)I" } : Jvm.MethodName) prog_44_method_23_code (6 : Nat) (Option.some Jvm.ClassFile.FieldType.int)) ∈ lw_all := lw_g (lw_at lw_m2 234 rfl) rfl
theorem q635 : (Jvm.Cond.static ({ cls := "java/lang/StringLatin1", name := "charAt", desc := "([BI)C" } : Jvm.MethodName)) ∈ lw_all := lw_g (lw_at lw_m3 63 rfl) rfl
theorem q636 : (Jvm.Cond.code ({ cls := "java/lang/StringLatin1", name := "charAt", desc := "([BI)C" } : Jvm.MethodName) prog_44_method_2_code (2 : Nat) (Option.some Jvm.ClassFile.FieldType.char)) ∈ lw_all := lw_g (lw_at lw_m3 64 rfl) rfl
theorem q637 : (Jvm.Cond.methodLink "java/lang/StringLatin1" (9 : Nat) ({ cls := "java/lang/String", name := "checkIndex", desc := "(II)V" } : Jvm.MethodName)) ∈ lw_all := lw_g (lw_at lw_m3 65 rfl) rfl

/-! java/lang/Math -/
set_option maxRecDepth 100000
def RJ7 : String := "java/lang/Math"
abbrev cJ7_max : ByteArray := prog_40_method_65_code
def yJ7_max : MethodName := ⟨RJ7, "max", "(II)I"⟩
def dkwJ7_max_0 : List UInt8 := [26, 27, 161, 0, 7, 26, 167, 0, 4, 27, 172]
abbrev dktJ7_max_0 : List UInt8 := dkwJ7_max_0 ++ []
theorem dksJ7_max_0 : cJ7_max.data.toList.drop 0 = dktJ7_max_0 := by decide +kernel
theorem dJ7_max_0 : decode cJ7_max 0 = .ok (.iload_n 0, 1) := dk_26 (dk_at dksJ7_max_0 0 rfl rfl)
theorem dJ7_max_1 : decode cJ7_max 1 = .ok (.iload_n 1, 1) := dk_27 (dk_at dksJ7_max_0 1 rfl rfl)
theorem dJ7_max_2 : decode cJ7_max 2 = .ok (.if_icmp .lt 7, 3) := dk_161 0 7 (dk_at dksJ7_max_0 2 rfl rfl)
theorem dJ7_max_5 : decode cJ7_max 5 = .ok (.iload_n 0, 1) := dk_26 (dk_at dksJ7_max_0 5 rfl rfl)
theorem dJ7_max_6 : decode cJ7_max 6 = .ok (.goto 4, 3) := dk_167 0 4 (dk_at dksJ7_max_0 6 rfl rfl)
theorem dJ7_max_9 : decode cJ7_max 9 = .ok (.iload_n 1, 1) := dk_27 (dk_at dksJ7_max_0 9 rfl rfl)
theorem dJ7_max_10 : decode cJ7_max 10 = .ok (.ireturn, 1) := dk_172 (dk_at dksJ7_max_0 10 rfl rfl)
abbrev cJ7_min : ByteArray := prog_40_method_69_code
def yJ7_min : MethodName := ⟨RJ7, "min", "(II)I"⟩
def dkwJ7_min_0 : List UInt8 := [26, 27, 163, 0, 7, 26, 167, 0, 4, 27, 172]
abbrev dktJ7_min_0 : List UInt8 := dkwJ7_min_0 ++ []
theorem dksJ7_min_0 : cJ7_min.data.toList.drop 0 = dktJ7_min_0 := by decide +kernel
theorem dJ7_min_0 : decode cJ7_min 0 = .ok (.iload_n 0, 1) := dk_26 (dk_at dksJ7_min_0 0 rfl rfl)
theorem dJ7_min_1 : decode cJ7_min 1 = .ok (.iload_n 1, 1) := dk_27 (dk_at dksJ7_min_0 1 rfl rfl)
theorem dJ7_min_2 : decode cJ7_min 2 = .ok (.if_icmp .gt 7, 3) := dk_163 0 7 (dk_at dksJ7_min_0 2 rfl rfl)
theorem dJ7_min_5 : decode cJ7_min 5 = .ok (.iload_n 0, 1) := dk_26 (dk_at dksJ7_min_0 5 rfl rfl)
theorem dJ7_min_6 : decode cJ7_min 6 = .ok (.goto 4, 3) := dk_167 0 4 (dk_at dksJ7_min_0 6 rfl rfl)
theorem dJ7_min_9 : decode cJ7_min 9 = .ok (.iload_n 1, 1) := dk_27 (dk_at dksJ7_min_0 9 rfl rfl)
theorem dJ7_min_10 : decode cJ7_min 10 = .ok (.ireturn, 1) := dk_172 (dk_at dksJ7_min_0 10 rfl rfl)
abbrev cJ7_floorMod : ByteArray := prog_40_method_50_code
def yJ7_floorMod : MethodName := ⟨RJ7, "floorMod", "(II)I"⟩
def dkwJ7_floorMod_0 : List UInt8 := [26, 27, 112, 61, 26, 27, 130, 156, 0, 11, 28, 153, 0, 7, 28, 27, 96, 172, 28, 172]
abbrev dktJ7_floorMod_0 : List UInt8 := dkwJ7_floorMod_0 ++ []
theorem dksJ7_floorMod_0 : cJ7_floorMod.data.toList.drop 0 = dktJ7_floorMod_0 := by decide +kernel
theorem dJ7_floorMod_0 : decode cJ7_floorMod 0 = .ok (.iload_n 0, 1) := dk_26 (dk_at dksJ7_floorMod_0 0 rfl rfl)
theorem dJ7_floorMod_1 : decode cJ7_floorMod 1 = .ok (.iload_n 1, 1) := dk_27 (dk_at dksJ7_floorMod_0 1 rfl rfl)
theorem dJ7_floorMod_2 : decode cJ7_floorMod 2 = .ok (.irem, 1) := dk_112 (dk_at dksJ7_floorMod_0 2 rfl rfl)
theorem dJ7_floorMod_3 : decode cJ7_floorMod 3 = .ok (.istore_n 2, 1) := dk_61 (dk_at dksJ7_floorMod_0 3 rfl rfl)
theorem dJ7_floorMod_4 : decode cJ7_floorMod 4 = .ok (.iload_n 0, 1) := dk_26 (dk_at dksJ7_floorMod_0 4 rfl rfl)
theorem dJ7_floorMod_5 : decode cJ7_floorMod 5 = .ok (.iload_n 1, 1) := dk_27 (dk_at dksJ7_floorMod_0 5 rfl rfl)
theorem dJ7_floorMod_6 : decode cJ7_floorMod 6 = .ok (.ixor, 1) := dk_130 (dk_at dksJ7_floorMod_0 6 rfl rfl)
theorem dJ7_floorMod_7 : decode cJ7_floorMod 7 = .ok (.ifCond .ge 11, 3) := dk_156 0 11 (dk_at dksJ7_floorMod_0 7 rfl rfl)
theorem dJ7_floorMod_10 : decode cJ7_floorMod 10 = .ok (.iload_n 2, 1) := dk_28 (dk_at dksJ7_floorMod_0 10 rfl rfl)
theorem dJ7_floorMod_11 : decode cJ7_floorMod 11 = .ok (.ifCond .eq 7, 3) := dk_153 0 7 (dk_at dksJ7_floorMod_0 11 rfl rfl)
theorem dJ7_floorMod_14 : decode cJ7_floorMod 14 = .ok (.iload_n 2, 1) := dk_28 (dk_at dksJ7_floorMod_0 14 rfl rfl)
theorem dJ7_floorMod_15 : decode cJ7_floorMod 15 = .ok (.iload_n 1, 1) := dk_27 (dk_at dksJ7_floorMod_0 15 rfl rfl)
theorem dJ7_floorMod_16 : decode cJ7_floorMod 16 = .ok (.iadd, 1) := dk_96 (dk_at dksJ7_floorMod_0 16 rfl rfl)
theorem dJ7_floorMod_17 : decode cJ7_floorMod 17 = .ok (.ireturn, 1) := dk_172 (dk_at dksJ7_floorMod_0 17 rfl rfl)
theorem dJ7_floorMod_18 : decode cJ7_floorMod 18 = .ok (.iload_n 2, 1) := dk_28 (dk_at dksJ7_floorMod_0 18 rfl rfl)
theorem dJ7_floorMod_19 : decode cJ7_floorMod 19 = .ok (.ireturn, 1) := dk_172 (dk_at dksJ7_floorMod_0 19 rfl rfl)
abbrev cJ7_abs : ByteArray := prog_40_method_59_code
def yJ7_abs : MethodName := ⟨RJ7, "abs", "(I)I"⟩
def dkwJ7_abs_0 : List UInt8 := [26, 156, 0, 8, 26, 116, 167, 0, 4, 26, 172]
abbrev dktJ7_abs_0 : List UInt8 := dkwJ7_abs_0 ++ []
theorem dksJ7_abs_0 : cJ7_abs.data.toList.drop 0 = dktJ7_abs_0 := by decide +kernel
theorem dJ7_abs_0 : decode cJ7_abs 0 = .ok (.iload_n 0, 1) := dk_26 (dk_at dksJ7_abs_0 0 rfl rfl)
theorem dJ7_abs_1 : decode cJ7_abs 1 = .ok (.ifCond .ge 8, 3) := dk_156 0 8 (dk_at dksJ7_abs_0 1 rfl rfl)
theorem dJ7_abs_4 : decode cJ7_abs 4 = .ok (.iload_n 0, 1) := dk_26 (dk_at dksJ7_abs_0 4 rfl rfl)
theorem dJ7_abs_5 : decode cJ7_abs 5 = .ok (.ineg, 1) := dk_116 (dk_at dksJ7_abs_0 5 rfl rfl)
theorem dJ7_abs_6 : decode cJ7_abs 6 = .ok (.goto 4, 3) := dk_167 0 4 (dk_at dksJ7_abs_0 6 rfl rfl)
theorem dJ7_abs_9 : decode cJ7_abs 9 = .ok (.iload_n 0, 1) := dk_26 (dk_at dksJ7_abs_0 9 rfl rfl)
theorem dJ7_abs_10 : decode cJ7_abs 10 = .ok (.ireturn, 1) := dk_172 (dk_at dksJ7_abs_0 10 rfl rfl)
theorem q108 : (Jvm.Cond.initialized "java/lang/Math") ∈ lw_all := lw_g (lw_at lw_m1 16 rfl) rfl
theorem q559 : (Jvm.Cond.static ({ cls := "java/lang/Math", name := "max", desc := "(II)I" } : Jvm.MethodName)) ∈ lw_all := lw_g (lw_at lw_m2 227 rfl) rfl
theorem q560 : (Jvm.Cond.code ({ cls := "java/lang/Math", name := "max", desc := "(II)I" } : Jvm.MethodName) prog_40_method_65_code (2 : Nat) (Option.some Jvm.ClassFile.FieldType.int)) ∈ lw_all := lw_g (lw_at lw_m2 228 rfl) rfl
theorem q562 : (Jvm.Cond.static ({ cls := "java/lang/Math", name := "min", desc := "(II)I" } : Jvm.MethodName)) ∈ lw_all := lw_g (lw_at lw_m2 230 rfl) rfl
theorem q563 : (Jvm.Cond.code ({ cls := "java/lang/Math", name := "min", desc := "(II)I" } : Jvm.MethodName) prog_40_method_69_code (2 : Nat) (Option.some Jvm.ClassFile.FieldType.int)) ∈ lw_all := lw_g (lw_at lw_m2 231 rfl) rfl
theorem q1189 : (Jvm.Cond.static ({ cls := "java/lang/Math", name := "floorMod", desc := "(II)I" } : Jvm.MethodName)) ∈ lw_all := lw_g (lw_at lw_m5 137 rfl) rfl
theorem q1190 : (Jvm.Cond.code ({ cls := "java/lang/Math", name := "floorMod", desc := "(II)I" } : Jvm.MethodName) prog_40_method_50_code (3 : Nat) (Option.some Jvm.ClassFile.FieldType.int)) ∈ lw_all := lw_g (lw_at lw_m5 138 rfl) rfl
theorem q1366 : (Jvm.Cond.static ({ cls := "java/lang/Math", name := "abs", desc := "(I)I" } : Jvm.MethodName)) ∈ lw_all := lw_g (lw_at lw_m6 74 rfl) rfl
theorem q1367 : (Jvm.Cond.code ({ cls := "java/lang/Math", name := "abs", desc := "(I)I" } : Jvm.MethodName) prog_40_method_59_code (1 : Nat) (Option.some Jvm.ClassFile.FieldType.int)) ∈ lw_all := lw_g (lw_at lw_m6 75 rfl) rfl

/-! java/lang/Character -/
set_option maxRecDepth 100000
def RJ9 : String := "java/lang/Character"
abbrev cJ9_isValidCodePoint : ByteArray := prog_33_method_11_code
def yJ9_isValidCodePoint : MethodName := ⟨RJ9, "isValidCodePoint", "(I)Z"⟩
def dkwJ9_isValidCodePoint_0 : List UInt8 := [26, 16, 16, 124, 60, 27, 16, 17, 162, 0, 7, 4, 167, 0, 4, 3, 172]
abbrev dktJ9_isValidCodePoint_0 : List UInt8 := dkwJ9_isValidCodePoint_0 ++ []
theorem dksJ9_isValidCodePoint_0 : cJ9_isValidCodePoint.data.toList.drop 0 = dktJ9_isValidCodePoint_0 := by decide +kernel
theorem dJ9_isValidCodePoint_0 : decode cJ9_isValidCodePoint 0 = .ok (.iload_n 0, 1) := dk_26 (dk_at dksJ9_isValidCodePoint_0 0 rfl rfl)
theorem dJ9_isValidCodePoint_1 : decode cJ9_isValidCodePoint 1 = .ok (.bipush 16, 2) := dk_16 16 (dk_at dksJ9_isValidCodePoint_0 1 rfl rfl)
theorem dJ9_isValidCodePoint_3 : decode cJ9_isValidCodePoint 3 = .ok (.iushr, 1) := dk_124 (dk_at dksJ9_isValidCodePoint_0 3 rfl rfl)
theorem dJ9_isValidCodePoint_4 : decode cJ9_isValidCodePoint 4 = .ok (.istore_n 1, 1) := dk_60 (dk_at dksJ9_isValidCodePoint_0 4 rfl rfl)
theorem dJ9_isValidCodePoint_5 : decode cJ9_isValidCodePoint 5 = .ok (.iload_n 1, 1) := dk_27 (dk_at dksJ9_isValidCodePoint_0 5 rfl rfl)
theorem dJ9_isValidCodePoint_6 : decode cJ9_isValidCodePoint 6 = .ok (.bipush 17, 2) := dk_16 17 (dk_at dksJ9_isValidCodePoint_0 6 rfl rfl)
theorem dJ9_isValidCodePoint_8 : decode cJ9_isValidCodePoint 8 = .ok (.if_icmp .ge 7, 3) := dk_162 0 7 (dk_at dksJ9_isValidCodePoint_0 8 rfl rfl)
theorem dJ9_isValidCodePoint_11 : decode cJ9_isValidCodePoint 11 = .ok (.iconst 1, 1) := dk_4 (dk_at dksJ9_isValidCodePoint_0 11 rfl rfl)
theorem dJ9_isValidCodePoint_12 : decode cJ9_isValidCodePoint 12 = .ok (.goto 4, 3) := dk_167 0 4 (dk_at dksJ9_isValidCodePoint_0 12 rfl rfl)
theorem dJ9_isValidCodePoint_15 : decode cJ9_isValidCodePoint 15 = .ok (.iconst 0, 1) := dk_3 (dk_at dksJ9_isValidCodePoint_0 15 rfl rfl)
theorem dJ9_isValidCodePoint_16 : decode cJ9_isValidCodePoint 16 = .ok (.ireturn, 1) := dk_172 (dk_at dksJ9_isValidCodePoint_0 16 rfl rfl)
abbrev cJ9_highSurrogate : ByteArray := prog_33_method_28_code
def yJ9_highSurrogate : MethodName := ⟨RJ9, "highSurrogate", "(I)C"⟩
def dkwJ9_highSurrogate_0 : List UInt8 := [26, 16, 10, 124, 18, 110, 96, 146, 172]
abbrev dktJ9_highSurrogate_0 : List UInt8 := dkwJ9_highSurrogate_0 ++ []
theorem dksJ9_highSurrogate_0 : cJ9_highSurrogate.data.toList.drop 0 = dktJ9_highSurrogate_0 := by decide +kernel
theorem dJ9_highSurrogate_0 : decode cJ9_highSurrogate 0 = .ok (.iload_n 0, 1) := dk_26 (dk_at dksJ9_highSurrogate_0 0 rfl rfl)
theorem dJ9_highSurrogate_1 : decode cJ9_highSurrogate 1 = .ok (.bipush 10, 2) := dk_16 10 (dk_at dksJ9_highSurrogate_0 1 rfl rfl)
theorem dJ9_highSurrogate_3 : decode cJ9_highSurrogate 3 = .ok (.iushr, 1) := dk_124 (dk_at dksJ9_highSurrogate_0 3 rfl rfl)
theorem dJ9_highSurrogate_4 : decode cJ9_highSurrogate 4 = .ok (.ldc 110, 2) := dk_18 110 (dk_at dksJ9_highSurrogate_0 4 rfl rfl)
theorem dJ9_highSurrogate_6 : decode cJ9_highSurrogate 6 = .ok (.iadd, 1) := dk_96 (dk_at dksJ9_highSurrogate_0 6 rfl rfl)
theorem dJ9_highSurrogate_7 : decode cJ9_highSurrogate 7 = .ok (.i2c, 1) := dk_146 (dk_at dksJ9_highSurrogate_0 7 rfl rfl)
theorem dJ9_highSurrogate_8 : decode cJ9_highSurrogate 8 = .ok (.ireturn, 1) := dk_172 (dk_at dksJ9_highSurrogate_0 8 rfl rfl)
abbrev cJ9_lowSurrogate : ByteArray := prog_33_method_29_code
def yJ9_lowSurrogate : MethodName := ⟨RJ9, "lowSurrogate", "(I)C"⟩
def dkwJ9_lowSurrogate_0 : List UInt8 := [26, 17, 3, 255, 126, 18, 76, 96, 146, 172]
abbrev dktJ9_lowSurrogate_0 : List UInt8 := dkwJ9_lowSurrogate_0 ++ []
theorem dksJ9_lowSurrogate_0 : cJ9_lowSurrogate.data.toList.drop 0 = dktJ9_lowSurrogate_0 := by decide +kernel
theorem dJ9_lowSurrogate_0 : decode cJ9_lowSurrogate 0 = .ok (.iload_n 0, 1) := dk_26 (dk_at dksJ9_lowSurrogate_0 0 rfl rfl)
theorem dJ9_lowSurrogate_1 : decode cJ9_lowSurrogate 1 = .ok (.sipush 1023, 3) := dk_17 3 255 (dk_at dksJ9_lowSurrogate_0 1 rfl rfl)
theorem dJ9_lowSurrogate_4 : decode cJ9_lowSurrogate 4 = .ok (.iand, 1) := dk_126 (dk_at dksJ9_lowSurrogate_0 4 rfl rfl)
theorem dJ9_lowSurrogate_5 : decode cJ9_lowSurrogate 5 = .ok (.ldc 76, 2) := dk_18 76 (dk_at dksJ9_lowSurrogate_0 5 rfl rfl)
theorem dJ9_lowSurrogate_7 : decode cJ9_lowSurrogate 7 = .ok (.iadd, 1) := dk_96 (dk_at dksJ9_lowSurrogate_0 7 rfl rfl)
theorem dJ9_lowSurrogate_8 : decode cJ9_lowSurrogate 8 = .ok (.i2c, 1) := dk_146 (dk_at dksJ9_lowSurrogate_0 8 rfl rfl)
theorem dJ9_lowSurrogate_9 : decode cJ9_lowSurrogate 9 = .ok (.ireturn, 1) := dk_172 (dk_at dksJ9_lowSurrogate_0 9 rfl rfl)
theorem q110 : (Jvm.Cond.initialized "java/lang/Character") ∈ lw_all := lw_g (lw_at lw_m1 18 rfl) rfl
theorem q606 : (Jvm.Cond.static ({ cls := "java/lang/Character", name := "isValidCodePoint", desc := "(I)Z" } : Jvm.MethodName)) ∈ lw_all := lw_g (lw_at lw_m3 34 rfl) rfl
theorem q607 : (Jvm.Cond.code ({ cls := "java/lang/Character", name := "isValidCodePoint", desc := "(I)Z" } : Jvm.MethodName) prog_33_method_11_code (2 : Nat) (Option.some Jvm.ClassFile.FieldType.boolean)) ∈ lw_all := lw_g (lw_at lw_m3 35 rfl) rfl
theorem q609 : (Jvm.Cond.static ({ cls := "java/lang/Character", name := "highSurrogate", desc := "(I)C" } : Jvm.MethodName)) ∈ lw_all := lw_g (lw_at lw_m3 37 rfl) rfl
theorem q610 : (Jvm.Cond.code ({ cls := "java/lang/Character", name := "highSurrogate", desc := "(I)C" } : Jvm.MethodName) prog_33_method_28_code (1 : Nat) (Option.some Jvm.ClassFile.FieldType.char)) ∈ lw_all := lw_g (lw_at lw_m3 38 rfl) rfl
theorem q611 : (Jvm.Cond.constant "java/lang/Character" (110 : Nat) (55232 : Int32)) ∈ lw_all := lw_g (lw_at lw_m3 39 rfl) rfl
theorem q613 : (Jvm.Cond.static ({ cls := "java/lang/Character", name := "lowSurrogate", desc := "(I)C" } : Jvm.MethodName)) ∈ lw_all := lw_g (lw_at lw_m3 41 rfl) rfl
theorem q614 : (Jvm.Cond.code ({ cls := "java/lang/Character", name := "lowSurrogate", desc := "(I)C" } : Jvm.MethodName) prog_33_method_29_code (1 : Nat) (Option.some Jvm.ClassFile.FieldType.char)) ∈ lw_all := lw_g (lw_at lw_m3 42 rfl) rfl
theorem q615 : (Jvm.Cond.constant "java/lang/Character" (76 : Nat) (56320 : Int32)) ∈ lw_all := lw_g (lw_at lw_m3 43 rfl) rfl

/-! java/lang/Throwable -/
set_option maxRecDepth 100000
def RJ10 : String := "java/lang/Throwable"
def TJ10 : u_T := fun k => match k with
  | 0 => ("java/lang/Throwable", "cause", "Ljava/lang/Throwable;", false)
  | 1 => ("java/lang/Throwable", "stackTrace", "[Ljava/lang/StackTraceElement;", false)
  | 2 => ("java/lang/Throwable", "suppressedExceptions", "Ljava/util/List;", false)
  | 3 => ("java/lang/Throwable", "detailMessage", "Ljava/lang/String;", false)
  | _ => ("java/lang/Throwable", "backtrace", "Ljava/lang/Object;", false)
def tyJ10 : Nat → FieldType := fun k => match k with
  | 0 => .object "java/lang/Throwable"
  | 1 => .array (.object "java/lang/StackTraceElement")
  | 2 => .object "java/util/List"
  | 3 => .object "java/lang/String"
  | _ => .object "java/lang/Object"
abbrev wsJ100 : List Cond := u_ws RJ10 TJ10 5
theorem nmJ10 : ∀ a, a < 5 → ∀ b, b < 5 → a ≠ b → (TJ10 a).2.1 ≠ (TJ10 b).2.1 := by decide +kernel
theorem tyJ10_ok : ∀ k, k < 5 → parseFieldDescriptor (TJ10 k).2.2.1 = some (tyJ10 k) := by decide +kernel
abbrev cJ10_init : ByteArray := prog_47_method_1_code
def yJ10_init : MethodName := ⟨RJ10, "<init>", "()V"⟩
def dkwJ10_init_1 : List UInt8 := [182, 0, 27, 87, 177]
abbrev dktJ10_init_1 : List UInt8 := dkwJ10_init_1 ++ []
def dkwJ10_init_0 : List UInt8 := [42, 183, 0, 1, 42, 42, 181, 0, 7, 42, 178, 0, 13, 181, 0, 17, 42, 178, 0, 20, 181, 0, 24, 42]
abbrev dktJ10_init_0 : List UInt8 := dkwJ10_init_0 ++ dktJ10_init_1
theorem dksJ10_init_0 : cJ10_init.data.toList.drop 0 = dktJ10_init_0 := by decide +kernel
theorem dksJ10_init_1 : cJ10_init.data.toList.drop 24 = dktJ10_init_1 := dk_seg dksJ10_init_0 24 rfl rfl
theorem dJ10_init_0 : decode cJ10_init 0 = .ok (.aload_n 0, 1) := dk_42 (dk_at dksJ10_init_0 0 rfl rfl)
theorem dJ10_init_1 : decode cJ10_init 1 = .ok (.invokespecial 1, 3) := dk_183 0 1 (dk_at dksJ10_init_0 1 rfl rfl)
theorem dJ10_init_4 : decode cJ10_init 4 = .ok (.aload_n 0, 1) := dk_42 (dk_at dksJ10_init_0 4 rfl rfl)
theorem dJ10_init_5 : decode cJ10_init 5 = .ok (.aload_n 0, 1) := dk_42 (dk_at dksJ10_init_0 5 rfl rfl)
theorem dJ10_init_6 : decode cJ10_init 6 = .ok (.putfield 7, 3) := dk_181 0 7 (dk_at dksJ10_init_0 6 rfl rfl)
theorem dJ10_init_9 : decode cJ10_init 9 = .ok (.aload_n 0, 1) := dk_42 (dk_at dksJ10_init_0 9 rfl rfl)
theorem dJ10_init_10 : decode cJ10_init 10 = .ok (.getstatic 13, 3) := dk_178 0 13 (dk_at dksJ10_init_0 10 rfl rfl)
theorem dJ10_init_13 : decode cJ10_init 13 = .ok (.putfield 17, 3) := dk_181 0 17 (dk_at dksJ10_init_0 13 rfl rfl)
theorem dJ10_init_16 : decode cJ10_init 16 = .ok (.aload_n 0, 1) := dk_42 (dk_at dksJ10_init_0 16 rfl rfl)
theorem dJ10_init_17 : decode cJ10_init 17 = .ok (.getstatic 20, 3) := dk_178 0 20 (dk_at dksJ10_init_0 17 rfl rfl)
theorem dJ10_init_20 : decode cJ10_init 20 = .ok (.putfield 24, 3) := dk_181 0 24 (dk_at dksJ10_init_0 20 rfl rfl)
theorem dJ10_init_23 : decode cJ10_init 23 = .ok (.aload_n 0, 1) := dk_42 (dk_at dksJ10_init_0 23 rfl rfl)
theorem dJ10_init_24 : decode cJ10_init 24 = .ok (.invokevirtual 27, 3) := dk_182 0 27 (dk_at dksJ10_init_1 0 rfl rfl)
theorem dJ10_init_27 : decode cJ10_init 27 = .ok (.pop, 1) := dk_87 (dk_at dksJ10_init_1 3 rfl rfl)
theorem dJ10_init_28 : decode cJ10_init 28 = .ok (.return_, 1) := dk_177 (dk_at dksJ10_init_1 4 rfl rfl)
theorem q111 : (Jvm.Cond.initialized "java/lang/Throwable") ∈ lw_all := lw_g (lw_at lw_m1 19 rfl) rfl
theorem q665 : (Jvm.Cond.declares ({ cls := "java/lang/Throwable", name := "<init>", desc := "()V" } : Jvm.MethodName)) ∈ lw_tbl := lw_at lw_m3 93 rfl
theorem q666 : (Jvm.Cond.declares ({ cls := "java/lang/Throwable", name := "<init>", desc := "(Ljava/lang/String;)V" } : Jvm.MethodName)) ∈ lw_tbl := lw_at lw_m3 94 rfl
theorem q670 : (Jvm.Cond.lays "java/lang/Throwable" "java/lang/Throwable" "cause" "Ljava/lang/Throwable;") ∈ lw_all := lw_g (lw_at lw_m3 98 rfl) rfl
theorem q672 : (Jvm.Cond.lays "java/lang/Throwable" "java/lang/Throwable" "stackTrace" "[Ljava/lang/StackTraceElement;") ∈ lw_all := lw_g (lw_at lw_m3 100 rfl) rfl
theorem q674 : (Jvm.Cond.lays "java/lang/Throwable" "java/lang/Throwable" "suppressedExceptions" "Ljava/util/List;") ∈ lw_all := lw_g (lw_at lw_m3 102 rfl) rfl
theorem q676 : (Jvm.Cond.lays "java/lang/Throwable" "java/lang/Throwable" "detailMessage" "Ljava/lang/String;") ∈ lw_all := lw_g (lw_at lw_m3 104 rfl) rfl
theorem q678 : (Jvm.Cond.lays "java/lang/Throwable" "java/lang/Throwable" "backtrace" "Ljava/lang/Object;") ∈ lw_all := lw_g (lw_at lw_m3 106 rfl) rfl
theorem q679 : (Jvm.Cond.fieldLink "java/lang/Throwable" (198 : Nat) "java/lang/Throwable" "backtrace" "Ljava/lang/Object;") ∈ lw_all := lw_g (lw_at lw_m3 107 rfl) rfl
theorem q680 : (Jvm.Cond.superclass "java/lang/Throwable" "java/lang/Object") ∈ lw_all := lw_g (lw_at lw_m3 108 rfl) rfl
theorem q681 : (Jvm.Cond.instanceMethod ({ cls := "java/lang/Throwable", name := "<init>", desc := "()V" } : Jvm.MethodName)) ∈ lw_all := lw_g (lw_at lw_m3 109 rfl) rfl
theorem q682 : (Jvm.Cond.code ({ cls := "java/lang/Throwable", name := "<init>", desc := "()V" } : Jvm.MethodName) prog_47_method_1_code (1 : Nat) (Option.none : Option Jvm.ClassFile.FieldType)) ∈ lw_all := lw_g (lw_at lw_m3 110 rfl) rfl
theorem q683 : (Jvm.Cond.methodLink "java/lang/Throwable" (1 : Nat) ({ cls := "java/lang/Object", name := "<init>", desc := "()V" } : Jvm.MethodName)) ∈ lw_all := lw_g (lw_at lw_m3 111 rfl) rfl
theorem q684 : (Jvm.Cond.fieldLink "java/lang/Throwable" (13 : Nat) "java/lang/Throwable" "UNASSIGNED_STACK" "[Ljava/lang/StackTraceElement;") ∈ lw_all := lw_g (lw_at lw_m3 112 rfl) rfl
theorem q685 : (Jvm.Cond.laysStatic "java/lang/Throwable" "UNASSIGNED_STACK" "[Ljava/lang/StackTraceElement;") ∈ lw_tbl := lw_at lw_m3 113 rfl
theorem q686 : (Jvm.Cond.fieldLink "java/lang/Throwable" (20 : Nat) "java/lang/Throwable" "SUPPRESSED_SENTINEL" "Ljava/util/List;") ∈ lw_all := lw_g (lw_at lw_m3 114 rfl) rfl
theorem q687 : (Jvm.Cond.laysStatic "java/lang/Throwable" "SUPPRESSED_SENTINEL" "Ljava/util/List;") ∈ lw_tbl := lw_at lw_m3 115 rfl
theorem q688 : (Jvm.Cond.methodLink "java/lang/Throwable" (27 : Nat) ({ cls := "java/lang/Throwable", name := "fillInStackTrace", desc := "()Ljava/lang/Throwable;" } : Jvm.MethodName)) ∈ lw_all := lw_g (lw_at lw_m3 116 rfl) rfl
theorem q689 : (Jvm.Cond.instanceMethod ({ cls := "java/lang/Throwable", name := "fillInStackTrace", desc := "()Ljava/lang/Throwable;" } : Jvm.MethodName)) ∈ lw_all := lw_g (lw_at lw_m3 117 rfl) rfl
theorem q690 : (Jvm.Cond.sameMethod "java/lang/Throwable" "java/lang/Throwable" "fillInStackTrace" "()Ljava/lang/Throwable;") ∈ lw_all := lw_g (lw_at lw_m3 118 rfl) rfl
theorem q692 : (Jvm.Cond.codeSync ({ cls := "java/lang/Throwable", name := "fillInStackTrace", desc := "()Ljava/lang/Throwable;" } : Jvm.MethodName) prog_47_method_18_code (1 : Nat) (Option.some (Jvm.ClassFile.FieldType.object "java/lang/Throwable"))) ∈ lw_all := lw_g (lw_at lw_m3 120 rfl) rfl
theorem q693 : (Jvm.Cond.methodLink "java/lang/Throwable" (202 : Nat) ({ cls := "java/lang/Throwable", name := "fillInStackTrace", desc := "(I)Ljava/lang/Throwable;" } : Jvm.MethodName)) ∈ lw_all := lw_g (lw_at lw_m3 121 rfl) rfl
theorem q694 : (Jvm.Cond.privateMethod ({ cls := "java/lang/Throwable", name := "fillInStackTrace", desc := "(I)Ljava/lang/Throwable;" } : Jvm.MethodName)) ∈ lw_tbl := lw_at lw_m3 122 rfl
theorem q695 : (Jvm.Cond.instanceMethod ({ cls := "java/lang/Throwable", name := "fillInStackTrace", desc := "(I)Ljava/lang/Throwable;" } : Jvm.MethodName)) ∈ lw_all := lw_g (lw_at lw_m3 123 rfl) rfl
theorem q696 : (Jvm.Cond.instantiable "java/lang/Throwable" (6 : Nat)) ∈ lw_all := lw_g (lw_at lw_m3 124 rfl) rfl
theorem q697 : (Jvm.Cond.native ({ cls := "java/lang/Throwable", name := "fillInStackTrace", desc := "(I)Ljava/lang/Throwable;" } : Jvm.MethodName)) ∈ lw_all := lw_g (lw_at lw_m3 125 rfl) rfl
theorem q707 : (Jvm.Cond.fieldLink "java/lang/Throwable" (198 : Nat) "java/lang/Throwable" "backtrace" "Ljava/lang/Object;") ∈ lw_all := lw_g (lw_at lw_m3 135 rfl) rfl
theorem q708 : (Jvm.Cond.fieldLink "java/lang/Throwable" (7 : Nat) "java/lang/Throwable" "cause" "Ljava/lang/Throwable;") ∈ lw_all := lw_g (lw_at lw_m3 136 rfl) rfl
theorem q709 : (Jvm.Cond.fieldLink "java/lang/Throwable" (17 : Nat) "java/lang/Throwable" "stackTrace" "[Ljava/lang/StackTraceElement;") ∈ lw_all := lw_g (lw_at lw_m3 137 rfl) rfl
theorem q710 : (Jvm.Cond.fieldLink "java/lang/Throwable" (24 : Nat) "java/lang/Throwable" "suppressedExceptions" "Ljava/util/List;") ∈ lw_all := lw_g (lw_at lw_m3 138 rfl) rfl
theorem q713 : (Jvm.Cond.soleField "java/lang/Throwable" "backtrace") ∈ lw_all := lw_g (lw_at lw_m3 141 rfl) rfl
theorem q714 : (Jvm.Cond.soleField "java/lang/Throwable" "detailMessage") ∈ lw_all := lw_g (lw_at lw_m3 142 rfl) rfl
theorem q715 : (Jvm.Cond.soleField "java/lang/Throwable" "cause") ∈ lw_all := lw_g (lw_at lw_m3 143 rfl) rfl
theorem q716 : (Jvm.Cond.soleField "java/lang/Throwable" "stackTrace") ∈ lw_all := lw_g (lw_at lw_m3 144 rfl) rfl
theorem q718 : (Jvm.Cond.soleField "java/lang/Throwable" "depth") ∈ lw_all := lw_g (lw_at lw_m3 146 rfl) rfl
theorem q719 : (Jvm.Cond.soleField "java/lang/Throwable" "suppressedExceptions") ∈ lw_all := lw_g (lw_at lw_m3 147 rfl) rfl
theorem q2047 : (Jvm.Cond.sameMethod "java/lang/Throwable" "java/lang/Throwable" "fillInStackTrace" "(I)Ljava/lang/Throwable;") ∈ lw_all := lw_g (lw_at lw_m9 35 rfl) rfl
theorem q2092 : (Jvm.Cond.castable "java/lang/Throwable" "java/lang/Object") ∈ lw_tbl := lw_at lw_m9 80 rfl
theorem in_J10 : ∀ w ∈ wsJ100, w ∈ lw_all := lw_in wsJ100 [670, 672, 674, 676, 678] (by decide +kernel) (by decide +kernel)

/-! java/lang/Exception -/
set_option maxRecDepth 100000
def RJ11 : String := "java/lang/Exception"
abbrev cJ11_init : ByteArray := prog_36_method_1_code
def yJ11_init : MethodName := ⟨RJ11, "<init>", "()V"⟩
theorem dJ11_init_0 : decode cJ11_init 0 = .ok (.aload_n 0, 1) := by decide +kernel
theorem dJ11_init_1 : decode cJ11_init 1 = .ok (.invokespecial 1, 3) := by decide +kernel
theorem dJ11_init_4 : decode cJ11_init 4 = .ok (.return_, 1) := by decide +kernel
theorem q112 : (Jvm.Cond.initialized "java/lang/Exception") ∈ lw_all := lw_g (lw_at lw_m1 20 rfl) rfl
theorem q663 : (Jvm.Cond.declares ({ cls := "java/lang/Exception", name := "<init>", desc := "()V" } : Jvm.MethodName)) ∈ lw_tbl := lw_at lw_m3 91 rfl
theorem q664 : (Jvm.Cond.declares ({ cls := "java/lang/Exception", name := "<init>", desc := "(Ljava/lang/String;)V" } : Jvm.MethodName)) ∈ lw_tbl := lw_at lw_m3 92 rfl
theorem q702 : (Jvm.Cond.instanceMethod ({ cls := "java/lang/Exception", name := "<init>", desc := "()V" } : Jvm.MethodName)) ∈ lw_all := lw_g (lw_at lw_m3 130 rfl) rfl
theorem q703 : (Jvm.Cond.code ({ cls := "java/lang/Exception", name := "<init>", desc := "()V" } : Jvm.MethodName) prog_36_method_1_code (1 : Nat) (Option.none : Option Jvm.ClassFile.FieldType)) ∈ lw_all := lw_g (lw_at lw_m3 131 rfl) rfl
theorem q704 : (Jvm.Cond.methodLink "java/lang/Exception" (1 : Nat) ({ cls := "java/lang/Throwable", name := "<init>", desc := "()V" } : Jvm.MethodName)) ∈ lw_all := lw_g (lw_at lw_m3 132 rfl) rfl

/-! jdk/internal/util/ArraysSupport -/
set_option maxRecDepth 100000
def RJ12 : String := "jdk/internal/util/ArraysSupport"
abbrev cJ12_newLength : ByteArray := prog_60_method_27_code
def yJ12_newLength : MethodName := ⟨RJ12, "newLength", "(III)I"⟩
def dkwJ12_newLength_1 : List UInt8 := [184, 0, 201, 172]
abbrev dktJ12_newLength_1 : List UInt8 := dkwJ12_newLength_1 ++ []
def dkwJ12_newLength_0 : List UInt8 := [26, 27, 28, 184, 0, 194, 96, 62, 3, 29, 162, 0, 11, 29, 18, 200, 163, 0, 5, 29, 172, 26, 27]
abbrev dktJ12_newLength_0 : List UInt8 := dkwJ12_newLength_0 ++ dktJ12_newLength_1
theorem dksJ12_newLength_0 : cJ12_newLength.data.toList.drop 0 = dktJ12_newLength_0 := by decide +kernel
theorem dksJ12_newLength_1 : cJ12_newLength.data.toList.drop 23 = dktJ12_newLength_1 := dk_seg dksJ12_newLength_0 23 rfl rfl
theorem dJ12_newLength_0 : decode cJ12_newLength 0 = .ok (.iload_n 0, 1) := dk_26 (dk_at dksJ12_newLength_0 0 rfl rfl)
theorem dJ12_newLength_1 : decode cJ12_newLength 1 = .ok (.iload_n 1, 1) := dk_27 (dk_at dksJ12_newLength_0 1 rfl rfl)
theorem dJ12_newLength_2 : decode cJ12_newLength 2 = .ok (.iload_n 2, 1) := dk_28 (dk_at dksJ12_newLength_0 2 rfl rfl)
theorem dJ12_newLength_3 : decode cJ12_newLength 3 = .ok (.invokestatic 194, 3) := dk_184 0 194 (dk_at dksJ12_newLength_0 3 rfl rfl)
theorem dJ12_newLength_6 : decode cJ12_newLength 6 = .ok (.iadd, 1) := dk_96 (dk_at dksJ12_newLength_0 6 rfl rfl)
theorem dJ12_newLength_7 : decode cJ12_newLength 7 = .ok (.istore_n 3, 1) := dk_62 (dk_at dksJ12_newLength_0 7 rfl rfl)
theorem dJ12_newLength_8 : decode cJ12_newLength 8 = .ok (.iconst 0, 1) := dk_3 (dk_at dksJ12_newLength_0 8 rfl rfl)
theorem dJ12_newLength_9 : decode cJ12_newLength 9 = .ok (.iload_n 3, 1) := dk_29 (dk_at dksJ12_newLength_0 9 rfl rfl)
theorem dJ12_newLength_10 : decode cJ12_newLength 10 = .ok (.if_icmp .ge 11, 3) := dk_162 0 11 (dk_at dksJ12_newLength_0 10 rfl rfl)
theorem dJ12_newLength_13 : decode cJ12_newLength 13 = .ok (.iload_n 3, 1) := dk_29 (dk_at dksJ12_newLength_0 13 rfl rfl)
theorem dJ12_newLength_14 : decode cJ12_newLength 14 = .ok (.ldc 200, 2) := dk_18 200 (dk_at dksJ12_newLength_0 14 rfl rfl)
theorem dJ12_newLength_16 : decode cJ12_newLength 16 = .ok (.if_icmp .gt 5, 3) := dk_163 0 5 (dk_at dksJ12_newLength_0 16 rfl rfl)
theorem dJ12_newLength_19 : decode cJ12_newLength 19 = .ok (.iload_n 3, 1) := dk_29 (dk_at dksJ12_newLength_0 19 rfl rfl)
theorem dJ12_newLength_20 : decode cJ12_newLength 20 = .ok (.ireturn, 1) := dk_172 (dk_at dksJ12_newLength_0 20 rfl rfl)
theorem dJ12_newLength_21 : decode cJ12_newLength 21 = .ok (.iload_n 0, 1) := dk_26 (dk_at dksJ12_newLength_0 21 rfl rfl)
theorem dJ12_newLength_22 : decode cJ12_newLength 22 = .ok (.iload_n 1, 1) := dk_27 (dk_at dksJ12_newLength_0 22 rfl rfl)
theorem dJ12_newLength_23 : decode cJ12_newLength 23 = .ok (.invokestatic 201, 3) := dk_184 0 201 (dk_at dksJ12_newLength_1 0 rfl rfl)
theorem dJ12_newLength_26 : decode cJ12_newLength 26 = .ok (.ireturn, 1) := dk_172 (dk_at dksJ12_newLength_1 3 rfl rfl)
abbrev cJ12_hugeLength : ByteArray := prog_60_method_28_code
def yJ12_hugeLength : MethodName := ⟨RJ12, "hugeLength", "(II)I"⟩
def dkwJ12_hugeLength_2 : List UInt8 := [191, 28, 18, 200, 163, 0, 6, 18, 200, 172, 28, 172]
abbrev dktJ12_hugeLength_2 : List UInt8 := dkwJ12_hugeLength_2 ++ []
def dkwJ12_hugeLength_1 : List UInt8 := [26, 182, 0, 98, 18, 208, 182, 0, 94, 27, 182, 0, 98, 18, 210, 182, 0, 94, 182, 0, 101, 183, 0, 212]
abbrev dktJ12_hugeLength_1 : List UInt8 := dkwJ12_hugeLength_1 ++ dktJ12_hugeLength_2
def dkwJ12_hugeLength_0 : List UInt8 := [26, 27, 96, 61, 28, 156, 0, 44, 187, 0, 204, 89, 187, 0, 89, 89, 183, 0, 91, 18, 206, 182, 0, 94]
abbrev dktJ12_hugeLength_0 : List UInt8 := dkwJ12_hugeLength_0 ++ dktJ12_hugeLength_1
theorem dksJ12_hugeLength_0 : cJ12_hugeLength.data.toList.drop 0 = dktJ12_hugeLength_0 := by decide +kernel
theorem dksJ12_hugeLength_1 : cJ12_hugeLength.data.toList.drop 24 = dktJ12_hugeLength_1 := dk_seg dksJ12_hugeLength_0 24 rfl rfl
theorem dksJ12_hugeLength_2 : cJ12_hugeLength.data.toList.drop 48 = dktJ12_hugeLength_2 := dk_seg dksJ12_hugeLength_1 24 rfl rfl
theorem dJ12_hugeLength_0 : decode cJ12_hugeLength 0 = .ok (.iload_n 0, 1) := dk_26 (dk_at dksJ12_hugeLength_0 0 rfl rfl)
theorem dJ12_hugeLength_1 : decode cJ12_hugeLength 1 = .ok (.iload_n 1, 1) := dk_27 (dk_at dksJ12_hugeLength_0 1 rfl rfl)
theorem dJ12_hugeLength_2 : decode cJ12_hugeLength 2 = .ok (.iadd, 1) := dk_96 (dk_at dksJ12_hugeLength_0 2 rfl rfl)
theorem dJ12_hugeLength_3 : decode cJ12_hugeLength 3 = .ok (.istore_n 2, 1) := dk_61 (dk_at dksJ12_hugeLength_0 3 rfl rfl)
theorem dJ12_hugeLength_4 : decode cJ12_hugeLength 4 = .ok (.iload_n 2, 1) := dk_28 (dk_at dksJ12_hugeLength_0 4 rfl rfl)
theorem dJ12_hugeLength_5 : decode cJ12_hugeLength 5 = .ok (.ifCond .ge 44, 3) := dk_156 0 44 (dk_at dksJ12_hugeLength_0 5 rfl rfl)
theorem dJ12_hugeLength_8 : decode cJ12_hugeLength 8 = .ok (.new 204, 3) := dk_187 0 204 (dk_at dksJ12_hugeLength_0 8 rfl rfl)
theorem dJ12_hugeLength_11 : decode cJ12_hugeLength 11 = .ok (.dup, 1) := dk_89 (dk_at dksJ12_hugeLength_0 11 rfl rfl)
theorem dJ12_hugeLength_12 : decode cJ12_hugeLength 12 = .ok (.new 89, 3) := dk_187 0 89 (dk_at dksJ12_hugeLength_0 12 rfl rfl)
theorem dJ12_hugeLength_15 : decode cJ12_hugeLength 15 = .ok (.dup, 1) := dk_89 (dk_at dksJ12_hugeLength_0 15 rfl rfl)
theorem dJ12_hugeLength_16 : decode cJ12_hugeLength 16 = .ok (.invokespecial 91, 3) := dk_183 0 91 (dk_at dksJ12_hugeLength_0 16 rfl rfl)
theorem dJ12_hugeLength_19 : decode cJ12_hugeLength 19 = .ok (.ldc 206, 2) := dk_18 206 (dk_at dksJ12_hugeLength_0 19 rfl rfl)
theorem dJ12_hugeLength_21 : decode cJ12_hugeLength 21 = .ok (.invokevirtual 94, 3) := dk_182 0 94 (dk_at dksJ12_hugeLength_0 21 rfl rfl)
theorem dJ12_hugeLength_24 : decode cJ12_hugeLength 24 = .ok (.iload_n 0, 1) := dk_26 (dk_at dksJ12_hugeLength_1 0 rfl rfl)
theorem dJ12_hugeLength_25 : decode cJ12_hugeLength 25 = .ok (.invokevirtual 98, 3) := dk_182 0 98 (dk_at dksJ12_hugeLength_1 1 rfl rfl)
theorem dJ12_hugeLength_28 : decode cJ12_hugeLength 28 = .ok (.ldc 208, 2) := dk_18 208 (dk_at dksJ12_hugeLength_1 4 rfl rfl)
theorem dJ12_hugeLength_30 : decode cJ12_hugeLength 30 = .ok (.invokevirtual 94, 3) := dk_182 0 94 (dk_at dksJ12_hugeLength_1 6 rfl rfl)
theorem dJ12_hugeLength_33 : decode cJ12_hugeLength 33 = .ok (.iload_n 1, 1) := dk_27 (dk_at dksJ12_hugeLength_1 9 rfl rfl)
theorem dJ12_hugeLength_34 : decode cJ12_hugeLength 34 = .ok (.invokevirtual 98, 3) := dk_182 0 98 (dk_at dksJ12_hugeLength_1 10 rfl rfl)
theorem dJ12_hugeLength_37 : decode cJ12_hugeLength 37 = .ok (.ldc 210, 2) := dk_18 210 (dk_at dksJ12_hugeLength_1 13 rfl rfl)
theorem dJ12_hugeLength_39 : decode cJ12_hugeLength 39 = .ok (.invokevirtual 94, 3) := dk_182 0 94 (dk_at dksJ12_hugeLength_1 15 rfl rfl)
theorem dJ12_hugeLength_42 : decode cJ12_hugeLength 42 = .ok (.invokevirtual 101, 3) := dk_182 0 101 (dk_at dksJ12_hugeLength_1 18 rfl rfl)
theorem dJ12_hugeLength_45 : decode cJ12_hugeLength 45 = .ok (.invokespecial 212, 3) := dk_183 0 212 (dk_at dksJ12_hugeLength_1 21 rfl rfl)
theorem dJ12_hugeLength_48 : decode cJ12_hugeLength 48 = .ok (.athrow, 1) := dk_191 (dk_at dksJ12_hugeLength_2 0 rfl rfl)
theorem dJ12_hugeLength_49 : decode cJ12_hugeLength 49 = .ok (.iload_n 2, 1) := dk_28 (dk_at dksJ12_hugeLength_2 1 rfl rfl)
theorem dJ12_hugeLength_50 : decode cJ12_hugeLength 50 = .ok (.ldc 200, 2) := dk_18 200 (dk_at dksJ12_hugeLength_2 2 rfl rfl)
theorem dJ12_hugeLength_52 : decode cJ12_hugeLength 52 = .ok (.if_icmp .gt 6, 3) := dk_163 0 6 (dk_at dksJ12_hugeLength_2 4 rfl rfl)
theorem dJ12_hugeLength_55 : decode cJ12_hugeLength 55 = .ok (.ldc 200, 2) := dk_18 200 (dk_at dksJ12_hugeLength_2 7 rfl rfl)
theorem dJ12_hugeLength_57 : decode cJ12_hugeLength 57 = .ok (.ireturn, 1) := dk_172 (dk_at dksJ12_hugeLength_2 9 rfl rfl)
theorem dJ12_hugeLength_58 : decode cJ12_hugeLength 58 = .ok (.iload_n 2, 1) := dk_28 (dk_at dksJ12_hugeLength_2 10 rfl rfl)
theorem dJ12_hugeLength_59 : decode cJ12_hugeLength 59 = .ok (.ireturn, 1) := dk_172 (dk_at dksJ12_hugeLength_2 11 rfl rfl)
theorem q121 : (Jvm.Cond.initialized "jdk/internal/util/ArraysSupport") ∈ lw_all := lw_g (lw_at lw_m1 29 rfl) rfl
theorem q847 : (Jvm.Cond.static ({ cls := "jdk/internal/util/ArraysSupport", name := "newLength", desc := "(III)I" } : Jvm.MethodName)) ∈ lw_all := lw_g (lw_at lw_m4 35 rfl) rfl
theorem q848 : (Jvm.Cond.code ({ cls := "jdk/internal/util/ArraysSupport", name := "newLength", desc := "(III)I" } : Jvm.MethodName) prog_60_method_27_code (4 : Nat) (Option.some Jvm.ClassFile.FieldType.int)) ∈ lw_all := lw_g (lw_at lw_m4 36 rfl) rfl
theorem q849 : (Jvm.Cond.methodLink "jdk/internal/util/ArraysSupport" (194 : Nat) ({ cls := "java/lang/Math", name := "max", desc := "(II)I" } : Jvm.MethodName)) ∈ lw_all := lw_g (lw_at lw_m4 37 rfl) rfl
theorem q850 : (Jvm.Cond.constant "jdk/internal/util/ArraysSupport" (200 : Nat) (2147483639 : Int32)) ∈ lw_all := lw_g (lw_at lw_m4 38 rfl) rfl
theorem q851 : (Jvm.Cond.methodLink "jdk/internal/util/ArraysSupport" (201 : Nat) ({ cls := "jdk/internal/util/ArraysSupport", name := "hugeLength", desc := "(II)I" } : Jvm.MethodName)) ∈ lw_all := lw_g (lw_at lw_m4 39 rfl) rfl
theorem q852 : (Jvm.Cond.static ({ cls := "jdk/internal/util/ArraysSupport", name := "hugeLength", desc := "(II)I" } : Jvm.MethodName)) ∈ lw_all := lw_g (lw_at lw_m4 40 rfl) rfl
theorem q853 : (Jvm.Cond.code ({ cls := "jdk/internal/util/ArraysSupport", name := "hugeLength", desc := "(II)I" } : Jvm.MethodName) prog_60_method_28_code (3 : Nat) (Option.some Jvm.ClassFile.FieldType.int)) ∈ lw_all := lw_g (lw_at lw_m4 41 rfl) rfl

/-! java/util/Arrays -/
set_option maxRecDepth 100000
def RJ13 : String := "java/util/Arrays"
abbrev cJ13_copyOf : ByteArray := prog_53_method_119_code
def yJ13_copyOf : MethodName := ⟨RJ13, "copyOf", "([Ljava/lang/Object;I)[Ljava/lang/Object;"⟩
def dkwJ13_copyOf_0 : List UInt8 := [42, 27, 42, 182, 0, 86, 184, 1, 44, 176]
abbrev dktJ13_copyOf_0 : List UInt8 := dkwJ13_copyOf_0 ++ []
theorem dksJ13_copyOf_0 : cJ13_copyOf.data.toList.drop 0 = dktJ13_copyOf_0 := by decide +kernel
theorem dJ13_copyOf_0 : decode cJ13_copyOf 0 = .ok (.aload_n 0, 1) := dk_42 (dk_at dksJ13_copyOf_0 0 rfl rfl)
theorem dJ13_copyOf_1 : decode cJ13_copyOf 1 = .ok (.iload_n 1, 1) := dk_27 (dk_at dksJ13_copyOf_0 1 rfl rfl)
theorem dJ13_copyOf_2 : decode cJ13_copyOf 2 = .ok (.aload_n 0, 1) := dk_42 (dk_at dksJ13_copyOf_0 2 rfl rfl)
theorem dJ13_copyOf_3 : decode cJ13_copyOf 3 = .ok (.invokevirtual 86, 3) := dk_182 0 86 (dk_at dksJ13_copyOf_0 3 rfl rfl)
theorem dJ13_copyOf_6 : decode cJ13_copyOf 6 = .ok (.invokestatic 300, 3) := dk_184 1 44 (dk_at dksJ13_copyOf_0 6 rfl rfl)
theorem dJ13_copyOf_9 : decode cJ13_copyOf 9 = .ok (.areturn, 1) := dk_176 (dk_at dksJ13_copyOf_0 9 rfl rfl)
abbrev cJ13_copyOf_2 : ByteArray := prog_53_method_120_code
def yJ13_copyOf_2 : MethodName := ⟨RJ13, "copyOf", "([Ljava/lang/Object;ILjava/lang/Class;)[Ljava/lang/Object;"⟩
def dkwJ13_copyOf_2_1 : List UInt8 := [78, 42, 3, 45, 3, 42, 190, 27, 184, 1, 48, 184, 0, 150, 45, 176]
abbrev dktJ13_copyOf_2_1 : List UInt8 := dkwJ13_copyOf_2_1 ++ []
def dkwJ13_copyOf_2_0 : List UInt8 := [44, 18, 110, 166, 0, 10, 27, 189, 0, 2, 167, 0, 14, 44, 182, 0, 90, 27, 184, 0, 95, 192, 0, 110]
abbrev dktJ13_copyOf_2_0 : List UInt8 := dkwJ13_copyOf_2_0 ++ dktJ13_copyOf_2_1
theorem dksJ13_copyOf_2_0 : cJ13_copyOf_2.data.toList.drop 0 = dktJ13_copyOf_2_0 := by decide +kernel
theorem dksJ13_copyOf_2_1 : cJ13_copyOf_2.data.toList.drop 24 = dktJ13_copyOf_2_1 := dk_seg dksJ13_copyOf_2_0 24 rfl rfl
theorem dJ13_copyOf_2_0 : decode cJ13_copyOf_2 0 = .ok (.aload_n 2, 1) := dk_44 (dk_at dksJ13_copyOf_2_0 0 rfl rfl)
theorem dJ13_copyOf_2_1 : decode cJ13_copyOf_2 1 = .ok (.ldc 110, 2) := dk_18 110 (dk_at dksJ13_copyOf_2_0 1 rfl rfl)
theorem dJ13_copyOf_2_3 : decode cJ13_copyOf_2 3 = .ok (.if_acmp .ne 10, 3) := dk_166 0 10 (dk_at dksJ13_copyOf_2_0 3 rfl rfl)
theorem dJ13_copyOf_2_6 : decode cJ13_copyOf_2 6 = .ok (.iload_n 1, 1) := dk_27 (dk_at dksJ13_copyOf_2_0 6 rfl rfl)
theorem dJ13_copyOf_2_7 : decode cJ13_copyOf_2 7 = .ok (.anewarray 2, 3) := dk_189 0 2 (dk_at dksJ13_copyOf_2_0 7 rfl rfl)
theorem dJ13_copyOf_2_10 : decode cJ13_copyOf_2 10 = .ok (.goto 14, 3) := dk_167 0 14 (dk_at dksJ13_copyOf_2_0 10 rfl rfl)
theorem dJ13_copyOf_2_13 : decode cJ13_copyOf_2 13 = .ok (.aload_n 2, 1) := dk_44 (dk_at dksJ13_copyOf_2_0 13 rfl rfl)
theorem dJ13_copyOf_2_14 : decode cJ13_copyOf_2 14 = .ok (.invokevirtual 90, 3) := dk_182 0 90 (dk_at dksJ13_copyOf_2_0 14 rfl rfl)
theorem dJ13_copyOf_2_17 : decode cJ13_copyOf_2 17 = .ok (.iload_n 1, 1) := dk_27 (dk_at dksJ13_copyOf_2_0 17 rfl rfl)
theorem dJ13_copyOf_2_18 : decode cJ13_copyOf_2 18 = .ok (.invokestatic 95, 3) := dk_184 0 95 (dk_at dksJ13_copyOf_2_0 18 rfl rfl)
theorem dJ13_copyOf_2_21 : decode cJ13_copyOf_2 21 = .ok (.checkcast 110, 3) := dk_192 0 110 (dk_at dksJ13_copyOf_2_0 21 rfl rfl)
theorem dJ13_copyOf_2_24 : decode cJ13_copyOf_2 24 = .ok (.astore_n 3, 1) := dk_78 (dk_at dksJ13_copyOf_2_1 0 rfl rfl)
theorem dJ13_copyOf_2_25 : decode cJ13_copyOf_2 25 = .ok (.aload_n 0, 1) := dk_42 (dk_at dksJ13_copyOf_2_1 1 rfl rfl)
theorem dJ13_copyOf_2_26 : decode cJ13_copyOf_2 26 = .ok (.iconst 0, 1) := dk_3 (dk_at dksJ13_copyOf_2_1 2 rfl rfl)
theorem dJ13_copyOf_2_27 : decode cJ13_copyOf_2 27 = .ok (.aload_n 3, 1) := dk_45 (dk_at dksJ13_copyOf_2_1 3 rfl rfl)
theorem dJ13_copyOf_2_28 : decode cJ13_copyOf_2 28 = .ok (.iconst 0, 1) := dk_3 (dk_at dksJ13_copyOf_2_1 4 rfl rfl)
theorem dJ13_copyOf_2_29 : decode cJ13_copyOf_2 29 = .ok (.aload_n 0, 1) := dk_42 (dk_at dksJ13_copyOf_2_1 5 rfl rfl)
theorem dJ13_copyOf_2_30 : decode cJ13_copyOf_2 30 = .ok (.arraylength, 1) := dk_190 (dk_at dksJ13_copyOf_2_1 6 rfl rfl)
theorem dJ13_copyOf_2_31 : decode cJ13_copyOf_2 31 = .ok (.iload_n 1, 1) := dk_27 (dk_at dksJ13_copyOf_2_1 7 rfl rfl)
theorem dJ13_copyOf_2_32 : decode cJ13_copyOf_2 32 = .ok (.invokestatic 304, 3) := dk_184 1 48 (dk_at dksJ13_copyOf_2_1 8 rfl rfl)
theorem dJ13_copyOf_2_35 : decode cJ13_copyOf_2 35 = .ok (.invokestatic 150, 3) := dk_184 0 150 (dk_at dksJ13_copyOf_2_1 11 rfl rfl)
theorem dJ13_copyOf_2_38 : decode cJ13_copyOf_2 38 = .ok (.aload_n 3, 1) := dk_45 (dk_at dksJ13_copyOf_2_1 14 rfl rfl)
theorem dJ13_copyOf_2_39 : decode cJ13_copyOf_2 39 = .ok (.areturn, 1) := dk_176 (dk_at dksJ13_copyOf_2_1 15 rfl rfl)
theorem q122 : (Jvm.Cond.initialized "java/util/Arrays") ∈ lw_all := lw_g (lw_at lw_m1 30 rfl) rfl
theorem q855 : (Jvm.Cond.static ({ cls := "java/util/Arrays", name := "copyOf", desc := "([Ljava/lang/Object;I)[Ljava/lang/Object;" } : Jvm.MethodName)) ∈ lw_all := lw_g (lw_at lw_m4 43 rfl) rfl
theorem q856 : (Jvm.Cond.code ({ cls := "java/util/Arrays", name := "copyOf", desc := "([Ljava/lang/Object;I)[Ljava/lang/Object;" } : Jvm.MethodName) prog_53_method_119_code (2 : Nat) (Option.some (Jvm.ClassFile.FieldType.array (Jvm.ClassFile.FieldType.object "java/lang/Object")))) ∈ lw_all := lw_g (lw_at lw_m4 44 rfl) rfl
theorem q857 : (Jvm.Cond.methodLink "java/util/Arrays" (86 : Nat) ({ cls := "java/lang/Object", name := "getClass", desc := "()Ljava/lang/Class;" } : Jvm.MethodName)) ∈ lw_all := lw_g (lw_at lw_m4 45 rfl) rfl
theorem q891 : (Jvm.Cond.methodLink "java/util/Arrays" (300 : Nat) ({ cls := "java/util/Arrays", name := "copyOf", desc := "([Ljava/lang/Object;ILjava/lang/Class;)[Ljava/lang/Object;" } : Jvm.MethodName)) ∈ lw_all := lw_g (lw_at lw_m4 79 rfl) rfl
theorem q892 : (Jvm.Cond.static ({ cls := "java/util/Arrays", name := "copyOf", desc := "([Ljava/lang/Object;ILjava/lang/Class;)[Ljava/lang/Object;" } : Jvm.MethodName)) ∈ lw_all := lw_g (lw_at lw_m4 80 rfl) rfl
theorem q893 : (Jvm.Cond.code ({ cls := "java/util/Arrays", name := "copyOf", desc := "([Ljava/lang/Object;ILjava/lang/Class;)[Ljava/lang/Object;" } : Jvm.MethodName) prog_53_method_120_code (4 : Nat) (Option.some (Jvm.ClassFile.FieldType.array (Jvm.ClassFile.FieldType.object "java/lang/Object")))) ∈ lw_all := lw_g (lw_at lw_m4 81 rfl) rfl
theorem q894 : (Jvm.Cond.classLink "java/util/Arrays" (110 : Nat) "[Ljava/lang/Object;") ∈ lw_all := lw_g (lw_at lw_m4 82 rfl) rfl
theorem q895 : (Jvm.Cond.classLink "java/util/Arrays" (2 : Nat) "java/lang/Object") ∈ lw_all := lw_g (lw_at lw_m4 83 rfl) rfl
theorem q896 : (Jvm.Cond.methodLink "java/util/Arrays" (304 : Nat) ({ cls := "java/lang/Math", name := "min", desc := "(II)I" } : Jvm.MethodName)) ∈ lw_all := lw_g (lw_at lw_m4 84 rfl) rfl
theorem q897 : (Jvm.Cond.methodLink "java/util/Arrays" (150 : Nat) ({ cls := "java/lang/System", name := "arraycopy", desc := "(Ljava/lang/Object;ILjava/lang/Object;II)V" } : Jvm.MethodName)) ∈ lw_all := lw_g (lw_at lw_m4 85 rfl) rfl

/-! java/lang/Number -/
set_option maxRecDepth 100000
def RJ14 : String := "java/lang/Number"
abbrev cJ14_init : ByteArray := prog_41_method_1_code
def yJ14_init : MethodName := ⟨RJ14, "<init>", "()V"⟩
theorem dJ14_init_0 : decode cJ14_init 0 = .ok (.aload_n 0, 1) := by decide +kernel
theorem dJ14_init_1 : decode cJ14_init 1 = .ok (.invokespecial 1, 3) := by decide +kernel
theorem dJ14_init_4 : decode cJ14_init 4 = .ok (.return_, 1) := by decide +kernel
theorem q130 : (Jvm.Cond.initialized "java/lang/Number") ∈ lw_all := lw_g (lw_at lw_m1 38 rfl) rfl
theorem q994 : (Jvm.Cond.instanceMethod ({ cls := "java/lang/Number", name := "<init>", desc := "()V" } : Jvm.MethodName)) ∈ lw_all := lw_g (lw_at lw_m4 182 rfl) rfl
theorem q995 : (Jvm.Cond.code ({ cls := "java/lang/Number", name := "<init>", desc := "()V" } : Jvm.MethodName) prog_41_method_1_code (1 : Nat) (Option.none : Option Jvm.ClassFile.FieldType)) ∈ lw_all := lw_g (lw_at lw_m4 183 rfl) rfl
theorem q996 : (Jvm.Cond.methodLink "java/lang/Number" (1 : Nat) ({ cls := "java/lang/Object", name := "<init>", desc := "()V" } : Jvm.MethodName)) ∈ lw_all := lw_g (lw_at lw_m4 184 rfl) rfl

/-! java/lang/Long -/
set_option maxRecDepth 100000
def RJ15 : String := "java/lang/Long"
def TJ15 : u_T := fun k => match k with
  | _ => ("java/lang/Long", "value", "J", true)
def tyJ15 : Nat → FieldType := fun k => match k with
  | _ => .long
abbrev wsJ150 : List Cond := u_ws RJ15 TJ15 1
theorem nmJ15 : ∀ a, a < 1 → ∀ b, b < 1 → a ≠ b → (TJ15 a).2.1 ≠ (TJ15 b).2.1 := by decide +kernel
theorem tyJ15_ok : ∀ k, k < 1 → parseFieldDescriptor (TJ15 k).2.2.1 = some (tyJ15 k) := by decide +kernel
abbrev cJ15_longValue : ByteArray := prog_38_method_31_code
def yJ15_longValue : MethodName := ⟨RJ15, "longValue", "()J"⟩
theorem dJ15_longValue_0 : decode cJ15_longValue 0 = .ok (.aload_n 0, 1) := by decide +kernel
theorem dJ15_longValue_1 : decode cJ15_longValue 1 = .ok (.getfield 273, 3) := by decide +kernel
theorem dJ15_longValue_4 : decode cJ15_longValue 4 = .ok (.lreturn, 1) := by decide +kernel
abbrev cJ15_valueOf : ByteArray := prog_38_method_24_code
def yJ15_valueOf : MethodName := ⟨RJ15, "valueOf", "(J)Ljava/lang/Long;"⟩
def dkwJ15_valueOf_1 : List UInt8 := [136, 17, 0, 128, 96, 50, 176, 187, 0, 1, 89, 30, 183, 0, 240, 176]
abbrev dktJ15_valueOf_1 : List UInt8 := dkwJ15_valueOf_1 ++ []
def dkwJ15_valueOf_0 : List UInt8 := [17, 0, 128, 61, 30, 20, 0, 230, 148, 155, 0, 22, 30, 20, 0, 232, 148, 157, 0, 14, 178, 0, 234, 30]
abbrev dktJ15_valueOf_0 : List UInt8 := dkwJ15_valueOf_0 ++ dktJ15_valueOf_1
theorem dksJ15_valueOf_0 : cJ15_valueOf.data.toList.drop 0 = dktJ15_valueOf_0 := by decide +kernel
theorem dksJ15_valueOf_1 : cJ15_valueOf.data.toList.drop 24 = dktJ15_valueOf_1 := dk_seg dksJ15_valueOf_0 24 rfl rfl
theorem dJ15_valueOf_0 : decode cJ15_valueOf 0 = .ok (.sipush 128, 3) := dk_17 0 128 (dk_at dksJ15_valueOf_0 0 rfl rfl)
theorem dJ15_valueOf_3 : decode cJ15_valueOf 3 = .ok (.istore_n 2, 1) := dk_61 (dk_at dksJ15_valueOf_0 3 rfl rfl)
theorem dJ15_valueOf_4 : decode cJ15_valueOf 4 = .ok (.lload_n 0, 1) := dk_30 (dk_at dksJ15_valueOf_0 4 rfl rfl)
theorem dJ15_valueOf_5 : decode cJ15_valueOf 5 = .ok (.ldc2_w 230, 3) := dk_20 0 230 (dk_at dksJ15_valueOf_0 5 rfl rfl)
theorem dJ15_valueOf_8 : decode cJ15_valueOf 8 = .ok (.lcmp, 1) := dk_148 (dk_at dksJ15_valueOf_0 8 rfl rfl)
theorem dJ15_valueOf_9 : decode cJ15_valueOf 9 = .ok (.ifCond .lt 22, 3) := dk_155 0 22 (dk_at dksJ15_valueOf_0 9 rfl rfl)
theorem dJ15_valueOf_12 : decode cJ15_valueOf 12 = .ok (.lload_n 0, 1) := dk_30 (dk_at dksJ15_valueOf_0 12 rfl rfl)
theorem dJ15_valueOf_13 : decode cJ15_valueOf 13 = .ok (.ldc2_w 232, 3) := dk_20 0 232 (dk_at dksJ15_valueOf_0 13 rfl rfl)
theorem dJ15_valueOf_16 : decode cJ15_valueOf 16 = .ok (.lcmp, 1) := dk_148 (dk_at dksJ15_valueOf_0 16 rfl rfl)
theorem dJ15_valueOf_17 : decode cJ15_valueOf 17 = .ok (.ifCond .gt 14, 3) := dk_157 0 14 (dk_at dksJ15_valueOf_0 17 rfl rfl)
theorem dJ15_valueOf_20 : decode cJ15_valueOf 20 = .ok (.getstatic 234, 3) := dk_178 0 234 (dk_at dksJ15_valueOf_0 20 rfl rfl)
theorem dJ15_valueOf_23 : decode cJ15_valueOf 23 = .ok (.lload_n 0, 1) := dk_30 (dk_at dksJ15_valueOf_0 23 rfl rfl)
theorem dJ15_valueOf_24 : decode cJ15_valueOf 24 = .ok (.l2i, 1) := dk_136 (dk_at dksJ15_valueOf_1 0 rfl rfl)
theorem dJ15_valueOf_25 : decode cJ15_valueOf 25 = .ok (.sipush 128, 3) := dk_17 0 128 (dk_at dksJ15_valueOf_1 1 rfl rfl)
theorem dJ15_valueOf_28 : decode cJ15_valueOf 28 = .ok (.iadd, 1) := dk_96 (dk_at dksJ15_valueOf_1 4 rfl rfl)
theorem dJ15_valueOf_29 : decode cJ15_valueOf 29 = .ok (.aaload, 1) := dk_50 (dk_at dksJ15_valueOf_1 5 rfl rfl)
theorem dJ15_valueOf_30 : decode cJ15_valueOf 30 = .ok (.areturn, 1) := dk_176 (dk_at dksJ15_valueOf_1 6 rfl rfl)
theorem dJ15_valueOf_31 : decode cJ15_valueOf 31 = .ok (.new 1, 3) := dk_187 0 1 (dk_at dksJ15_valueOf_1 7 rfl rfl)
theorem dJ15_valueOf_34 : decode cJ15_valueOf 34 = .ok (.dup, 1) := dk_89 (dk_at dksJ15_valueOf_1 10 rfl rfl)
theorem dJ15_valueOf_35 : decode cJ15_valueOf 35 = .ok (.lload_n 0, 1) := dk_30 (dk_at dksJ15_valueOf_1 11 rfl rfl)
theorem dJ15_valueOf_36 : decode cJ15_valueOf 36 = .ok (.invokespecial 240, 3) := dk_183 0 240 (dk_at dksJ15_valueOf_1 12 rfl rfl)
theorem dJ15_valueOf_39 : decode cJ15_valueOf 39 = .ok (.areturn, 1) := dk_176 (dk_at dksJ15_valueOf_1 15 rfl rfl)
abbrev cJ15_init : ByteArray := prog_38_method_26_code
def yJ15_init : MethodName := ⟨RJ15, "<init>", "(J)V"⟩
def dkwJ15_init_0 : List UInt8 := [42, 183, 1, 14, 42, 31, 181, 1, 17, 177]
abbrev dktJ15_init_0 : List UInt8 := dkwJ15_init_0 ++ []
theorem dksJ15_init_0 : cJ15_init.data.toList.drop 0 = dktJ15_init_0 := by decide +kernel
theorem dJ15_init_0 : decode cJ15_init 0 = .ok (.aload_n 0, 1) := dk_42 (dk_at dksJ15_init_0 0 rfl rfl)
theorem dJ15_init_1 : decode cJ15_init 1 = .ok (.invokespecial 270, 3) := dk_183 1 14 (dk_at dksJ15_init_0 1 rfl rfl)
theorem dJ15_init_4 : decode cJ15_init 4 = .ok (.aload_n 0, 1) := dk_42 (dk_at dksJ15_init_0 4 rfl rfl)
theorem dJ15_init_5 : decode cJ15_init 5 = .ok (.lload_n 1, 1) := dk_31 (dk_at dksJ15_init_0 5 rfl rfl)
theorem dJ15_init_6 : decode cJ15_init 6 = .ok (.putfield 273, 3) := dk_181 1 17 (dk_at dksJ15_init_0 6 rfl rfl)
theorem dJ15_init_9 : decode cJ15_init 9 = .ok (.return_, 1) := dk_177 (dk_at dksJ15_init_0 9 rfl rfl)
theorem q131 : (Jvm.Cond.initialized "java/lang/Long") ∈ lw_all := lw_g (lw_at lw_m1 39 rfl) rfl
theorem q887 : (Jvm.Cond.selects "java/lang/Long" ({ cls := "java/lang/Object", name := "getClass", desc := "()Ljava/lang/Class;" } : Jvm.MethodName) ({ cls := "java/lang/Object", name := "getClass", desc := "()Ljava/lang/Class;" } : Jvm.MethodName)) ∈ lw_all := lw_g (lw_at lw_m4 75 rfl) rfl
theorem q966 : (Jvm.Cond.instanceMethod ({ cls := "java/lang/Long", name := "longValue", desc := "()J" } : Jvm.MethodName)) ∈ lw_all := lw_g (lw_at lw_m4 154 rfl) rfl
theorem q967 : (Jvm.Cond.selects "java/lang/Long" ({ cls := "java/lang/Long", name := "longValue", desc := "()J" } : Jvm.MethodName) ({ cls := "java/lang/Long", name := "longValue", desc := "()J" } : Jvm.MethodName)) ∈ lw_all := lw_g (lw_at lw_m4 155 rfl) rfl
theorem q968 : (Jvm.Cond.code ({ cls := "java/lang/Long", name := "longValue", desc := "()J" } : Jvm.MethodName) prog_38_method_31_code (1 : Nat) (Option.some Jvm.ClassFile.FieldType.long)) ∈ lw_all := lw_g (lw_at lw_m4 156 rfl) rfl
theorem q982 : (Jvm.Cond.static ({ cls := "java/lang/Long", name := "valueOf", desc := "(J)Ljava/lang/Long;" } : Jvm.MethodName)) ∈ lw_all := lw_g (lw_at lw_m4 170 rfl) rfl
theorem q983 : (Jvm.Cond.code ({ cls := "java/lang/Long", name := "valueOf", desc := "(J)Ljava/lang/Long;" } : Jvm.MethodName) prog_38_method_24_code (3 : Nat) (Option.some (Jvm.ClassFile.FieldType.object "java/lang/Long"))) ∈ lw_all := lw_g (lw_at lw_m4 171 rfl) rfl
theorem q984 : (Jvm.Cond.constantLong "java/lang/Long" (230 : Nat) (-128 : Int64)) ∈ lw_all := lw_g (lw_at lw_m4 172 rfl) rfl
theorem q985 : (Jvm.Cond.constantLong "java/lang/Long" (232 : Nat) (127 : Int64)) ∈ lw_all := lw_g (lw_at lw_m4 173 rfl) rfl
theorem q986 : (Jvm.Cond.fieldLink "java/lang/Long" (234 : Nat) "java/lang/Long$LongCache" "cache" "[Ljava/lang/Long;") ∈ lw_all := lw_g (lw_at lw_m4 174 rfl) rfl
theorem q988 : (Jvm.Cond.classLink "java/lang/Long" (1 : Nat) "java/lang/Long") ∈ lw_all := lw_g (lw_at lw_m4 176 rfl) rfl
theorem q989 : (Jvm.Cond.instantiable "java/lang/Long" (1 : Nat)) ∈ lw_all := lw_g (lw_at lw_m4 177 rfl) rfl
theorem q990 : (Jvm.Cond.methodLink "java/lang/Long" (240 : Nat) ({ cls := "java/lang/Long", name := "<init>", desc := "(J)V" } : Jvm.MethodName)) ∈ lw_all := lw_g (lw_at lw_m4 178 rfl) rfl
theorem q991 : (Jvm.Cond.instanceMethod ({ cls := "java/lang/Long", name := "<init>", desc := "(J)V" } : Jvm.MethodName)) ∈ lw_all := lw_g (lw_at lw_m4 179 rfl) rfl
theorem q992 : (Jvm.Cond.code ({ cls := "java/lang/Long", name := "<init>", desc := "(J)V" } : Jvm.MethodName) prog_38_method_26_code (3 : Nat) (Option.none : Option Jvm.ClassFile.FieldType)) ∈ lw_all := lw_g (lw_at lw_m4 180 rfl) rfl
theorem q993 : (Jvm.Cond.methodLink "java/lang/Long" (270 : Nat) ({ cls := "java/lang/Number", name := "<init>", desc := "()V" } : Jvm.MethodName)) ∈ lw_all := lw_g (lw_at lw_m4 181 rfl) rfl
theorem q997 : (Jvm.Cond.fieldLink "java/lang/Long" (273 : Nat) "java/lang/Long" "value" "J") ∈ lw_all := lw_g (lw_at lw_m4 185 rfl) rfl
theorem q998 : (Jvm.Cond.laysFinal "java/lang/Long" "java/lang/Long" "value" "J") ∈ lw_all := lw_g (lw_at lw_m4 186 rfl) rfl
theorem q999 : (Jvm.Cond.soleField "java/lang/Long" "value") ∈ lw_all := lw_g (lw_at lw_m4 187 rfl) rfl
theorem q1000 : (Jvm.Cond.superclass "java/lang/Long" "java/lang/Number") ∈ lw_all := lw_g (lw_at lw_m4 188 rfl) rfl
theorem q2085 : (Jvm.Cond.castable "java/lang/Long" "java/lang/Object") ∈ lw_tbl := lw_at lw_m9 73 rfl
theorem in_J15 : ∀ w ∈ wsJ150, w ∈ lw_all := lw_in wsJ150 [998] (by decide +kernel) (by decide +kernel)

/-! java/lang/RuntimeException -/
set_option maxRecDepth 100000
def RJ16 : String := "java/lang/RuntimeException"
abbrev cJ16_init : ByteArray := prog_42_method_1_code
def yJ16_init : MethodName := ⟨RJ16, "<init>", "()V"⟩
theorem dJ16_init_0 : decode cJ16_init 0 = .ok (.aload_n 0, 1) := by decide +kernel
theorem dJ16_init_1 : decode cJ16_init 1 = .ok (.invokespecial 1, 3) := by decide +kernel
theorem dJ16_init_4 : decode cJ16_init 4 = .ok (.return_, 1) := by decide +kernel
theorem q139 : (Jvm.Cond.initialized "java/lang/RuntimeException") ∈ lw_all := lw_g (lw_at lw_m1 47 rfl) rfl
theorem q1514 : (Jvm.Cond.declares ({ cls := "java/lang/RuntimeException", name := "<init>", desc := "()V" } : Jvm.MethodName)) ∈ lw_tbl := lw_at lw_m6 222 rfl
theorem q1515 : (Jvm.Cond.declares ({ cls := "java/lang/RuntimeException", name := "<init>", desc := "(Ljava/lang/String;)V" } : Jvm.MethodName)) ∈ lw_tbl := lw_at lw_m6 223 rfl
theorem q1526 : (Jvm.Cond.instanceMethod ({ cls := "java/lang/RuntimeException", name := "<init>", desc := "()V" } : Jvm.MethodName)) ∈ lw_all := lw_g (lw_at lw_m6 234 rfl) rfl
theorem q1527 : (Jvm.Cond.code ({ cls := "java/lang/RuntimeException", name := "<init>", desc := "()V" } : Jvm.MethodName) prog_42_method_1_code (1 : Nat) (Option.none : Option Jvm.ClassFile.FieldType)) ∈ lw_all := lw_g (lw_at lw_m6 235 rfl) rfl
theorem q1528 : (Jvm.Cond.methodLink "java/lang/RuntimeException" (1 : Nat) ({ cls := "java/lang/Exception", name := "<init>", desc := "()V" } : Jvm.MethodName)) ∈ lw_all := lw_g (lw_at lw_m6 236 rfl) rfl

/-! java/util/NoSuchElementException -/
set_option maxRecDepth 100000
def RJ17 : String := "java/util/NoSuchElementException"
def TJ17 : u_T := fun k => match k with
  | 0 => ("java/lang/Throwable", "cause", "Ljava/lang/Throwable;", false)
  | 1 => ("java/lang/Throwable", "stackTrace", "[Ljava/lang/StackTraceElement;", false)
  | 2 => ("java/lang/Throwable", "suppressedExceptions", "Ljava/util/List;", false)
  | 3 => ("java/lang/Throwable", "detailMessage", "Ljava/lang/String;", false)
  | 4 => ("java/lang/Throwable", "backtrace", "Ljava/lang/Object;", false)
  | _ => ("java/lang/Throwable", "depth", "I", false)
def tyJ17 : Nat → FieldType := fun k => match k with
  | 0 => .object "java/lang/Throwable"
  | 1 => .array (.object "java/lang/StackTraceElement")
  | 2 => .object "java/util/List"
  | 3 => .object "java/lang/String"
  | 4 => .object "java/lang/Object"
  | _ => .int
abbrev wsJ170 : List Cond := u_ws RJ17 TJ17 6
theorem nmJ17 : ∀ a, a < 6 → ∀ b, b < 6 → a ≠ b → (TJ17 a).2.1 ≠ (TJ17 b).2.1 := by decide +kernel
theorem tyJ17_ok : ∀ k, k < 6 → parseFieldDescriptor (TJ17 k).2.2.1 = some (tyJ17 k) := by decide +kernel
abbrev cJ17_init : ByteArray := prog_56_method_1_code
def yJ17_init : MethodName := ⟨RJ17, "<init>", "()V"⟩
theorem dJ17_init_0 : decode cJ17_init 0 = .ok (.aload_n 0, 1) := by decide +kernel
theorem dJ17_init_1 : decode cJ17_init 1 = .ok (.invokespecial 1, 3) := by decide +kernel
theorem dJ17_init_4 : decode cJ17_init 4 = .ok (.return_, 1) := by decide +kernel
theorem q140 : (Jvm.Cond.initialized "java/util/NoSuchElementException") ∈ lw_all := lw_g (lw_at lw_m1 48 rfl) rfl
theorem q691 : (Jvm.Cond.selects "java/util/NoSuchElementException" ({ cls := "java/lang/Throwable", name := "fillInStackTrace", desc := "()Ljava/lang/Throwable;" } : Jvm.MethodName) ({ cls := "java/lang/Throwable", name := "fillInStackTrace", desc := "()Ljava/lang/Throwable;" } : Jvm.MethodName)) ∈ lw_all := lw_g (lw_at lw_m3 119 rfl) rfl
theorem q889 : (Jvm.Cond.selects "java/util/NoSuchElementException" ({ cls := "java/lang/Object", name := "getClass", desc := "()Ljava/lang/Class;" } : Jvm.MethodName) ({ cls := "java/lang/Object", name := "getClass", desc := "()Ljava/lang/Class;" } : Jvm.MethodName)) ∈ lw_all := lw_g (lw_at lw_m4 77 rfl) rfl
theorem q1512 : (Jvm.Cond.instantiable "java/util/NoSuchElementException" (6 : Nat)) ∈ lw_all := lw_g (lw_at lw_m6 220 rfl) rfl
theorem q1513 : (Jvm.Cond.castable "java/util/NoSuchElementException" "java/util/NoSuchElementException") ∈ lw_tbl := lw_at lw_m6 221 rfl
theorem q1516 : (Jvm.Cond.selects "java/util/NoSuchElementException" ({ cls := "java/lang/Throwable", name := "fillInStackTrace", desc := "(I)Ljava/lang/Throwable;" } : Jvm.MethodName) ({ cls := "java/lang/Throwable", name := "fillInStackTrace", desc := "(I)Ljava/lang/Throwable;" } : Jvm.MethodName)) ∈ lw_all := lw_g (lw_at lw_m6 224 rfl) rfl
theorem q1517 : (Jvm.Cond.lays "java/util/NoSuchElementException" "java/lang/Throwable" "cause" "Ljava/lang/Throwable;") ∈ lw_all := lw_g (lw_at lw_m6 225 rfl) rfl
theorem q1518 : (Jvm.Cond.lays "java/util/NoSuchElementException" "java/lang/Throwable" "stackTrace" "[Ljava/lang/StackTraceElement;") ∈ lw_all := lw_g (lw_at lw_m6 226 rfl) rfl
theorem q1519 : (Jvm.Cond.lays "java/util/NoSuchElementException" "java/lang/Throwable" "suppressedExceptions" "Ljava/util/List;") ∈ lw_all := lw_g (lw_at lw_m6 227 rfl) rfl
theorem q1520 : (Jvm.Cond.lays "java/util/NoSuchElementException" "java/lang/Throwable" "detailMessage" "Ljava/lang/String;") ∈ lw_all := lw_g (lw_at lw_m6 228 rfl) rfl
theorem q1521 : (Jvm.Cond.lays "java/util/NoSuchElementException" "java/lang/Throwable" "backtrace" "Ljava/lang/Object;") ∈ lw_all := lw_g (lw_at lw_m6 229 rfl) rfl
theorem q1523 : (Jvm.Cond.instanceMethod ({ cls := "java/util/NoSuchElementException", name := "<init>", desc := "()V" } : Jvm.MethodName)) ∈ lw_all := lw_g (lw_at lw_m6 231 rfl) rfl
theorem q1524 : (Jvm.Cond.code ({ cls := "java/util/NoSuchElementException", name := "<init>", desc := "()V" } : Jvm.MethodName) prog_56_method_1_code (1 : Nat) (Option.none : Option Jvm.ClassFile.FieldType)) ∈ lw_all := lw_g (lw_at lw_m6 232 rfl) rfl
theorem q1525 : (Jvm.Cond.methodLink "java/util/NoSuchElementException" (1 : Nat) ({ cls := "java/lang/RuntimeException", name := "<init>", desc := "()V" } : Jvm.MethodName)) ∈ lw_all := lw_g (lw_at lw_m6 233 rfl) rfl
theorem q1529 : (Jvm.Cond.lays "java/util/NoSuchElementException" "java/lang/Throwable" "depth" "I") ∈ lw_all := lw_g (lw_at lw_m6 237 rfl) rfl
theorem q1530 : (Jvm.Cond.superclass "java/util/NoSuchElementException" "java/lang/RuntimeException") ∈ lw_all := lw_g (lw_at lw_m6 238 rfl) rfl
theorem q2091 : (Jvm.Cond.castable "java/util/NoSuchElementException" "java/lang/Object") ∈ lw_tbl := lw_at lw_m9 79 rfl
theorem in_J17 : ∀ w ∈ wsJ170, w ∈ lw_all := lw_in wsJ170 [1517, 1518, 1519, 1520, 1521, 1529] (by decide +kernel) (by decide +kernel)

/-! java/lang/Object -/
set_option maxRecDepth 100000
def RJ18 : String := "java/lang/Object"
abbrev cJ18_init : ByteArray := object_method_1_code
def yJ18_init : MethodName := ⟨RJ18, "<init>", "()V"⟩
theorem dJ18_init_0 : decode cJ18_init 0 = .ok (.return_, 1) := by decide +kernel
theorem q148 : (Jvm.Cond.instanceMethod ({ cls := "java/lang/Object", name := "<init>", desc := "()V" } : Jvm.MethodName)) ∈ lw_all := lw_g (lw_at lw_m1 56 rfl) rfl
theorem q149 : (Jvm.Cond.code ({ cls := "java/lang/Object", name := "<init>", desc := "()V" } : Jvm.MethodName) object_method_1_code (1 : Nat) (Option.none : Option Jvm.ClassFile.FieldType)) ∈ lw_all := lw_g (lw_at lw_m1 57 rfl) rfl
theorem q858 : (Jvm.Cond.instanceMethod ({ cls := "java/lang/Object", name := "getClass", desc := "()Ljava/lang/Class;" } : Jvm.MethodName)) ∈ lw_all := lw_g (lw_at lw_m4 46 rfl) rfl
theorem q859 : (Jvm.Cond.sameMethod "java/lang/Object" "java/lang/Object" "getClass" "()Ljava/lang/Class;") ∈ lw_all := lw_g (lw_at lw_m4 47 rfl) rfl
theorem q890 : (Jvm.Cond.native ({ cls := "java/lang/Object", name := "getClass", desc := "()Ljava/lang/Class;" } : Jvm.MethodName)) ∈ lw_all := lw_g (lw_at lw_m4 78 rfl) rfl
theorem q2048 : (Jvm.Cond.initialized "java/lang/Object") ∈ lw_all := lw_g (lw_at lw_m9 36 rfl) rfl
theorem q2095 : (Jvm.Cond.declares ({ cls := "java/lang/Object", name := "getClass", desc := "()Ljava/lang/Class;" } : Jvm.MethodName)) ∈ lw_tbl := lw_at lw_m9 83 rfl

theorem q2097 : (Jvm.Cond.castable "[B" "java/lang/Object") ∈ lw_tbl := lw_at lw_m9 85 rfl
set_option maxRecDepth 100000
theorem q2099 : (Jvm.Cond.castable "[I" "java/lang/Object") ∈ lw_tbl := lw_at lw_m9 87 rfl
set_option maxRecDepth 100000
theorem q2100 : (Jvm.Cond.castable "[J" "java/lang/Object") ∈ lw_tbl := lw_at lw_m9 88 rfl
set_option maxRecDepth 100000
theorem q2103 : (Jvm.Cond.castable "[LFogNets$Mark;" "java/lang/Object") ∈ lw_tbl := lw_at lw_m9 91 rfl
set_option maxRecDepth 100000
theorem q2102 : (Jvm.Cond.castable "[LFogNets$Net;" "java/lang/Object") ∈ lw_tbl := lw_at lw_m9 90 rfl
set_option maxRecDepth 100000
theorem q2093 : (Jvm.Cond.sameMethod "[Ljava/lang/Object;" "java/lang/Object" "getClass" "()Ljava/lang/Class;") ∈ lw_all := lw_g (lw_at lw_m9 81 rfl) rfl
set_option maxRecDepth 100000
theorem q2094 : (Jvm.Cond.selects "[Ljava/lang/Object;" ({ cls := "java/lang/Object", name := "getClass", desc := "()Ljava/lang/Class;" } : Jvm.MethodName) ({ cls := "java/lang/Object", name := "getClass", desc := "()Ljava/lang/Class;" } : Jvm.MethodName)) ∈ lw_all := lw_g (lw_at lw_m9 82 rfl) rfl
theorem q2101 : (Jvm.Cond.castable "[Ljava/lang/Object;" "java/lang/Object") ∈ lw_tbl := lw_at lw_m9 89 rfl
theorem q2096 : (Jvm.Cond.castable "[Ljava/lang/String;" "java/lang/Object") ∈ lw_tbl := lw_at lw_m9 84 rfl
set_option maxRecDepth 100000
theorem q2098 : (Jvm.Cond.castable "[Z" "java/lang/Object") ∈ lw_tbl := lw_at lw_m9 86 rfl
set_option maxRecDepth 100000
theorem q132 : (Jvm.Cond.initialized "java/lang/Long$LongCache") ∈ lw_all := lw_g (lw_at lw_m1 40 rfl) rfl
set_option maxRecDepth 100000
theorem q987 : (Jvm.Cond.laysStatic "java/lang/Long$LongCache" "cache" "[Ljava/lang/Long;") ∈ lw_tbl := lw_at lw_m4 175 rfl
theorem q123 : (Jvm.Cond.initialized "java/lang/System") ∈ lw_all := lw_g (lw_at lw_m1 31 rfl) rfl
set_option maxRecDepth 100000
theorem q898 : (Jvm.Cond.static ({ cls := "java/lang/System", name := "arraycopy", desc := "(Ljava/lang/Object;ILjava/lang/Object;II)V" } : Jvm.MethodName)) ∈ lw_all := lw_g (lw_at lw_m4 86 rfl) rfl
theorem q899 : (Jvm.Cond.native ({ cls := "java/lang/System", name := "arraycopy", desc := "(Ljava/lang/Object;ILjava/lang/Object;II)V" } : Jvm.MethodName)) ∈ lw_all := lw_g (lw_at lw_m4 87 rfl) rfl
theorem q157 : (Jvm.Cond.arrayOver (Jvm.ClassFile.FieldType.object "java/lang/String")) ∈ lw_tbl := lw_at lw_m1 65 rfl
set_option maxRecDepth 100000
theorem q230 : (Jvm.Cond.arrayClass Jvm.ClassFile.FieldType.byte) ∈ lw_all := lw_g (lw_at lw_m1 138 rfl) rfl
theorem q231 : (Jvm.Cond.arrayClass Jvm.ClassFile.FieldType.boolean) ∈ lw_all := lw_g (lw_at lw_m1 139 rfl) rfl
theorem q232 : (Jvm.Cond.arrayClass Jvm.ClassFile.FieldType.int) ∈ lw_all := lw_g (lw_at lw_m1 140 rfl) rfl
theorem q233 : (Jvm.Cond.arrayClass Jvm.ClassFile.FieldType.long) ∈ lw_all := lw_g (lw_at lw_m1 141 rfl) rfl
theorem q253 : (Jvm.Cond.arrayOver (Jvm.ClassFile.FieldType.object "java/lang/Object")) ∈ lw_tbl := lw_at lw_m1 161 rfl
theorem q351 : (Jvm.Cond.arrayOver (Jvm.ClassFile.FieldType.object "FogNets$Net")) ∈ lw_tbl := lw_at lw_m2 19 rfl
theorem q418 : (Jvm.Cond.arrayOver (Jvm.ClassFile.FieldType.object "FogNets$Mark")) ∈ lw_tbl := lw_at lw_m2 86 rfl

